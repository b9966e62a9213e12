/-- scalb, as one rounding -/
def fJ2_scalbF (p0 : UInt64) (p2 : Int32) : UInt64 := sclD p0 p2.toInt
def oJ2_scalbF (p0 : UInt64) : Prop := vf_n64 p0
theorem scalb_spec (p0 : UInt64) (p2 : Int32) (post : UInt64 → Prop) (hw : post (fJ2_scalbF p0 p2)) (hok : oJ2_scalbF p0) : wJ2_scalb p0 p2 post := scalb_spec' p0 p2 post hw hok

theorem mJ2_scalbF (l : Launch) (D : va_G) (TY : Nat → ClassId) (p0 : UInt64) (p2 : Int32) (post : UInt64 → Prop) (hw : post (fJ2_scalbF p0 p2)) (hok : oJ2_scalbF p0) : Met l yJ2_scalb (ws_ yJ2_scalb cJ2_scalb 9 (Option.some Jvm.ClassFile.FieldType.double)) ({ frames := 2, cells := 0, slots := 0, locals := 35 }) (PR D TY [.double p0, .int p2] []) (vp_Sd post) 0 0 (fun _ => False) := mJ2_scalb l D TY p0 p2 post (scalb_spec p0 p2 post hw hok)
