/-! words of the exceptions' constructors -/
def zexN : List String := ["java/lang/RuntimeException", "java/lang/Exception"]
def zexk (w : Cond) : Bool := goodWord w || (match w with
  | .castable _ _ => true
  | .declares _ => true
  | _ => false)
def zexb (w : Cond) : Bool := zexk w && (vx_ot w && decide (w ∈ lw_tbl))
set_option maxRecDepth 100000 in
theorem zex1 : (vx_at0 "EchoFair" 12 "java/lang/IllegalStateException" zexN).all zexb = true := by decide +kernel
set_option maxRecDepth 100000 in
theorem zex2 : (vx_at0 "EchoFair" 9 "java/lang/IllegalArgumentException" zexN).all zexb = true := by decide +kernel
set_option maxRecDepth 100000 in
theorem zex3 : (vx_at0 "EchoFair" 3 "java/lang/IndexOutOfBoundsException" zexN).all zexb = true := by decide +kernel
