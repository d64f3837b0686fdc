/-! evaluation by the component: which method -/
set_option maxRecDepth 100000
set_option maxHeartbeats 4000000
section
variable {d : Nat} {m : Mem} {as : List PV}
theorem ci_17 : ci d 301 17 as m = cl d 307 as m := rfl
theorem ci_18 : ci d 301 18 as m = cl d 309 as m := rfl
theorem ci_19 : ci d 301 19 as m = cl d 311 as m := rfl
theorem ci_20 : ci d 301 20 as m = cl d 313 as m := rfl
theorem ci_29 : ci d 301 29 as m = cl d 341 as m := rfl
theorem ci_21 : ci d 302 21 as m = cl d 315 as m := rfl
theorem ci_22 : ci d 302 22 as m = cl d 317 as m := rfl
theorem ci_26 : ci d 302 26 as m = cl d 325 as m := rfl
theorem ci_28 : ci d 302 28 as m = cl d 339 as m := rfl
theorem ci_23 : ci d 303 23 as m = cl d 319 as m := rfl
theorem ci_24 : ci d 303 24 as m = cl d 321 as m := rfl
theorem ci_25 : ci d 303 25 as m = cl d 323 as m := rfl
end
