/-! My layer, base: typed values, the abstract memory, what it says of a heap, the world's constants. -/
set_option maxRecDepth 100000
-- typed values: ints, references, longs, doubles, floats
abbrev TV : Type := Int32 ⊕ (Option Nat ⊕ (Int64 ⊕ (UInt64 ⊕ UInt32)))
abbrev tI (x : Int32) : TV := .inl x
abbrev tR (r : Option Nat) : TV := .inr (.inl r)
abbrev tL (x : Int64) : TV := .inr (.inr (.inl x))
abbrev tD (x : UInt64) : TV := .inr (.inr (.inr (.inl x)))
abbrev tF (x : UInt32) : TV := .inr (.inr (.inr (.inr x)))
def tv (x : TV) : Value := match x with
  | .inl x => .int x
  | .inr (.inl r) => va_rf r
  | .inr (.inr (.inl x)) => .long x
  | .inr (.inr (.inr (.inl x))) => .double x
  | .inr (.inr (.inr (.inr x))) => .float x
def tcat (x : TV) : Bool := match x with
  | .inr (.inr (.inl _)) => true
  | .inr (.inr (.inr (.inl _))) => true
  | _ => false
theorem va_rf_cat (r : Option Nat) : (va_rf r).category = 1 := by cases r <;> rfl
theorem tv_cat (x : TV) : ((tv x).category == 2) = tcat x := by
  rcases x with x | r | x | x | x
  · rfl
  · show ((va_rf r).category == 2) = false
    rw [va_rf_cat]; rfl
  · rfl
  · rfl
  · rfl
-- the abstract memory: class of an address (0: none), length of an array, int fields, ref fields (by field, then address), int elements, ref elements, long elements, double elements (by address, then place), size
abbrev Mem : Type := (Nat → Nat) × (Nat → Nat) × (Nat → Nat → Int32) × (Nat → Nat → Option Nat) × (Nat → Nat → Int32) × (Nat → Nat → Option Nat) × (Nat → Nat → Int64) × (Nat → Nat → UInt64) × Nat
def zC (μ : Mem) (a : Nat) : Nat := μ.1 a
def zN (μ : Mem) (a : Nat) : Nat := μ.2.1 a
def zI (μ : Mem) (g a : Nat) : Int32 := μ.2.2.1 g a
def zR (μ : Mem) (g a : Nat) : Option Nat := μ.2.2.2.1 g a
def zA (μ : Mem) (a i : Nat) : Int32 := μ.2.2.2.2.1 a i
def zQ (μ : Mem) (a i : Nat) : Option Nat := μ.2.2.2.2.2.1 a i
def zJ (μ : Mem) (a i : Nat) : Int64 := μ.2.2.2.2.2.2.1 a i
def zD (μ : Mem) (a i : Nat) : UInt64 := μ.2.2.2.2.2.2.2.1 a i
def zS (μ : Mem) : Nat := μ.2.2.2.2.2.2.2.2
def z2 {α : Type} (f : Nat → Nat → α) (i j : Nat) (v : α) : Nat → Nat → α := fun i' j' => if i' = i then (if j' = j then v else f i' j') else f i' j'
def zsI (μ : Mem) (g a : Nat) (v : Int32) : Mem := (μ.1, μ.2.1, z2 μ.2.2.1 g a v, μ.2.2.2.1, μ.2.2.2.2.1, μ.2.2.2.2.2.1, μ.2.2.2.2.2.2.1, μ.2.2.2.2.2.2.2.1, μ.2.2.2.2.2.2.2.2)
def zsR (μ : Mem) (g a : Nat) (v : Option Nat) : Mem := (μ.1, μ.2.1, μ.2.2.1, z2 μ.2.2.2.1 g a v, μ.2.2.2.2.1, μ.2.2.2.2.2.1, μ.2.2.2.2.2.2.1, μ.2.2.2.2.2.2.2.1, μ.2.2.2.2.2.2.2.2)
def zsA (μ : Mem) (a i : Nat) (v : Int32) : Mem := (μ.1, μ.2.1, μ.2.2.1, μ.2.2.2.1, z2 μ.2.2.2.2.1 a i v, μ.2.2.2.2.2.1, μ.2.2.2.2.2.2.1, μ.2.2.2.2.2.2.2.1, μ.2.2.2.2.2.2.2.2)
def zsQ (μ : Mem) (a i : Nat) (v : Option Nat) : Mem := (μ.1, μ.2.1, μ.2.2.1, μ.2.2.2.1, μ.2.2.2.2.1, z2 μ.2.2.2.2.2.1 a i v, μ.2.2.2.2.2.2.1, μ.2.2.2.2.2.2.2.1, μ.2.2.2.2.2.2.2.2)
def zsJ (μ : Mem) (a i : Nat) (v : Int64) : Mem := (μ.1, μ.2.1, μ.2.2.1, μ.2.2.2.1, μ.2.2.2.2.1, μ.2.2.2.2.2.1, z2 μ.2.2.2.2.2.2.1 a i v, μ.2.2.2.2.2.2.2.1, μ.2.2.2.2.2.2.2.2)
def zsD (μ : Mem) (a i : Nat) (v : UInt64) : Mem := (μ.1, μ.2.1, μ.2.2.1, μ.2.2.2.1, μ.2.2.2.2.1, μ.2.2.2.2.2.1, μ.2.2.2.2.2.2.1, z2 μ.2.2.2.2.2.2.2.1 a i v, μ.2.2.2.2.2.2.2.2)
/-- a new object (n = 0) or array of class code c: the next address; everything at it is default -/
def zNew (μ : Mem) (c n : Nat) : Mem :=
  (fun a => if a = zS μ then c else zC μ a, fun a => if a = zS μ then n else zN μ a,
   fun g a => if a = zS μ then 0 else zI μ g a, fun g a => if a = zS μ then none else zR μ g a,
   fun a i => if a = zS μ then 0 else zA μ a i, fun a i => if a = zS μ then none else zQ μ a i,
   fun a i => if a = zS μ then 0 else zJ μ a i, fun a i => if a = zS μ then 0 else zD μ a i, zS μ + 1)
/-- a part of an int array replaced -/
def zcA (μ : Mem) (a : Nat) (f : Nat → Int32) : Mem := (μ.1, μ.2.1, μ.2.2.1, μ.2.2.2.1, fun b i => if b = a then f i else μ.2.2.2.2.1 b i, μ.2.2.2.2.2.1, μ.2.2.2.2.2.2.1, μ.2.2.2.2.2.2.2.1, μ.2.2.2.2.2.2.2.2)
def zcQ (μ : Mem) (a : Nat) (f : Nat → Option Nat) : Mem := (μ.1, μ.2.1, μ.2.2.1, μ.2.2.2.1, μ.2.2.2.2.1, fun b i => if b = a then f i else μ.2.2.2.2.2.1 b i, μ.2.2.2.2.2.2.1, μ.2.2.2.2.2.2.2.1, μ.2.2.2.2.2.2.2.2)
theorem zC_zsI (μ : Mem) (g a : Nat) (v : Int32) (a' : Nat) : zC (zsI μ g a v) a' = (zC μ a') := rfl
theorem zN_zsI (μ : Mem) (g a : Nat) (v : Int32) (a' : Nat) : zN (zsI μ g a v) a' = (zN μ a') := rfl
theorem zI_zsI (μ : Mem) (g a : Nat) (v : Int32) (g' a' : Nat) : zI (zsI μ g a v) g' a' = (if g' = g then (if a' = a then v else zI μ g' a') else zI μ g' a') := rfl
theorem zR_zsI (μ : Mem) (g a : Nat) (v : Int32) (g' a' : Nat) : zR (zsI μ g a v) g' a' = (zR μ g' a') := rfl
theorem zA_zsI (μ : Mem) (g a : Nat) (v : Int32) (a' i' : Nat) : zA (zsI μ g a v) a' i' = (zA μ a' i') := rfl
theorem zQ_zsI (μ : Mem) (g a : Nat) (v : Int32) (a' i' : Nat) : zQ (zsI μ g a v) a' i' = (zQ μ a' i') := rfl
theorem zJ_zsI (μ : Mem) (g a : Nat) (v : Int32) (a' i' : Nat) : zJ (zsI μ g a v) a' i' = (zJ μ a' i') := rfl
theorem zD_zsI (μ : Mem) (g a : Nat) (v : Int32) (a' i' : Nat) : zD (zsI μ g a v) a' i' = (zD μ a' i') := rfl
theorem zS_zsI (μ : Mem) (g a : Nat) (v : Int32) : zS (zsI μ g a v)  = (zS μ ) := rfl
theorem zC_zsR (μ : Mem) (g a : Nat) (v : Option Nat) (a' : Nat) : zC (zsR μ g a v) a' = (zC μ a') := rfl
theorem zN_zsR (μ : Mem) (g a : Nat) (v : Option Nat) (a' : Nat) : zN (zsR μ g a v) a' = (zN μ a') := rfl
theorem zI_zsR (μ : Mem) (g a : Nat) (v : Option Nat) (g' a' : Nat) : zI (zsR μ g a v) g' a' = (zI μ g' a') := rfl
theorem zR_zsR (μ : Mem) (g a : Nat) (v : Option Nat) (g' a' : Nat) : zR (zsR μ g a v) g' a' = (if g' = g then (if a' = a then v else zR μ g' a') else zR μ g' a') := rfl
theorem zA_zsR (μ : Mem) (g a : Nat) (v : Option Nat) (a' i' : Nat) : zA (zsR μ g a v) a' i' = (zA μ a' i') := rfl
theorem zQ_zsR (μ : Mem) (g a : Nat) (v : Option Nat) (a' i' : Nat) : zQ (zsR μ g a v) a' i' = (zQ μ a' i') := rfl
theorem zJ_zsR (μ : Mem) (g a : Nat) (v : Option Nat) (a' i' : Nat) : zJ (zsR μ g a v) a' i' = (zJ μ a' i') := rfl
theorem zD_zsR (μ : Mem) (g a : Nat) (v : Option Nat) (a' i' : Nat) : zD (zsR μ g a v) a' i' = (zD μ a' i') := rfl
theorem zS_zsR (μ : Mem) (g a : Nat) (v : Option Nat) : zS (zsR μ g a v)  = (zS μ ) := rfl
theorem zC_zsA (μ : Mem) (a i : Nat) (v : Int32) (a' : Nat) : zC (zsA μ a i v) a' = (zC μ a') := rfl
theorem zN_zsA (μ : Mem) (a i : Nat) (v : Int32) (a' : Nat) : zN (zsA μ a i v) a' = (zN μ a') := rfl
theorem zI_zsA (μ : Mem) (a i : Nat) (v : Int32) (g' a' : Nat) : zI (zsA μ a i v) g' a' = (zI μ g' a') := rfl
theorem zR_zsA (μ : Mem) (a i : Nat) (v : Int32) (g' a' : Nat) : zR (zsA μ a i v) g' a' = (zR μ g' a') := rfl
theorem zA_zsA (μ : Mem) (a i : Nat) (v : Int32) (a' i' : Nat) : zA (zsA μ a i v) a' i' = (if a' = a then (if i' = i then v else zA μ a' i') else zA μ a' i') := rfl
theorem zQ_zsA (μ : Mem) (a i : Nat) (v : Int32) (a' i' : Nat) : zQ (zsA μ a i v) a' i' = (zQ μ a' i') := rfl
theorem zJ_zsA (μ : Mem) (a i : Nat) (v : Int32) (a' i' : Nat) : zJ (zsA μ a i v) a' i' = (zJ μ a' i') := rfl
theorem zD_zsA (μ : Mem) (a i : Nat) (v : Int32) (a' i' : Nat) : zD (zsA μ a i v) a' i' = (zD μ a' i') := rfl
theorem zS_zsA (μ : Mem) (a i : Nat) (v : Int32) : zS (zsA μ a i v)  = (zS μ ) := rfl
theorem zC_zsQ (μ : Mem) (a i : Nat) (v : Option Nat) (a' : Nat) : zC (zsQ μ a i v) a' = (zC μ a') := rfl
theorem zN_zsQ (μ : Mem) (a i : Nat) (v : Option Nat) (a' : Nat) : zN (zsQ μ a i v) a' = (zN μ a') := rfl
theorem zI_zsQ (μ : Mem) (a i : Nat) (v : Option Nat) (g' a' : Nat) : zI (zsQ μ a i v) g' a' = (zI μ g' a') := rfl
theorem zR_zsQ (μ : Mem) (a i : Nat) (v : Option Nat) (g' a' : Nat) : zR (zsQ μ a i v) g' a' = (zR μ g' a') := rfl
theorem zA_zsQ (μ : Mem) (a i : Nat) (v : Option Nat) (a' i' : Nat) : zA (zsQ μ a i v) a' i' = (zA μ a' i') := rfl
theorem zQ_zsQ (μ : Mem) (a i : Nat) (v : Option Nat) (a' i' : Nat) : zQ (zsQ μ a i v) a' i' = (if a' = a then (if i' = i then v else zQ μ a' i') else zQ μ a' i') := rfl
theorem zJ_zsQ (μ : Mem) (a i : Nat) (v : Option Nat) (a' i' : Nat) : zJ (zsQ μ a i v) a' i' = (zJ μ a' i') := rfl
theorem zD_zsQ (μ : Mem) (a i : Nat) (v : Option Nat) (a' i' : Nat) : zD (zsQ μ a i v) a' i' = (zD μ a' i') := rfl
theorem zS_zsQ (μ : Mem) (a i : Nat) (v : Option Nat) : zS (zsQ μ a i v)  = (zS μ ) := rfl
theorem zC_zsJ (μ : Mem) (a i : Nat) (v : Int64) (a' : Nat) : zC (zsJ μ a i v) a' = (zC μ a') := rfl
theorem zN_zsJ (μ : Mem) (a i : Nat) (v : Int64) (a' : Nat) : zN (zsJ μ a i v) a' = (zN μ a') := rfl
theorem zI_zsJ (μ : Mem) (a i : Nat) (v : Int64) (g' a' : Nat) : zI (zsJ μ a i v) g' a' = (zI μ g' a') := rfl
theorem zR_zsJ (μ : Mem) (a i : Nat) (v : Int64) (g' a' : Nat) : zR (zsJ μ a i v) g' a' = (zR μ g' a') := rfl
theorem zA_zsJ (μ : Mem) (a i : Nat) (v : Int64) (a' i' : Nat) : zA (zsJ μ a i v) a' i' = (zA μ a' i') := rfl
theorem zQ_zsJ (μ : Mem) (a i : Nat) (v : Int64) (a' i' : Nat) : zQ (zsJ μ a i v) a' i' = (zQ μ a' i') := rfl
theorem zJ_zsJ (μ : Mem) (a i : Nat) (v : Int64) (a' i' : Nat) : zJ (zsJ μ a i v) a' i' = (if a' = a then (if i' = i then v else zJ μ a' i') else zJ μ a' i') := rfl
theorem zD_zsJ (μ : Mem) (a i : Nat) (v : Int64) (a' i' : Nat) : zD (zsJ μ a i v) a' i' = (zD μ a' i') := rfl
theorem zS_zsJ (μ : Mem) (a i : Nat) (v : Int64) : zS (zsJ μ a i v)  = (zS μ ) := rfl
theorem zC_zsD (μ : Mem) (a i : Nat) (v : UInt64) (a' : Nat) : zC (zsD μ a i v) a' = (zC μ a') := rfl
theorem zN_zsD (μ : Mem) (a i : Nat) (v : UInt64) (a' : Nat) : zN (zsD μ a i v) a' = (zN μ a') := rfl
theorem zI_zsD (μ : Mem) (a i : Nat) (v : UInt64) (g' a' : Nat) : zI (zsD μ a i v) g' a' = (zI μ g' a') := rfl
theorem zR_zsD (μ : Mem) (a i : Nat) (v : UInt64) (g' a' : Nat) : zR (zsD μ a i v) g' a' = (zR μ g' a') := rfl
theorem zA_zsD (μ : Mem) (a i : Nat) (v : UInt64) (a' i' : Nat) : zA (zsD μ a i v) a' i' = (zA μ a' i') := rfl
theorem zQ_zsD (μ : Mem) (a i : Nat) (v : UInt64) (a' i' : Nat) : zQ (zsD μ a i v) a' i' = (zQ μ a' i') := rfl
theorem zJ_zsD (μ : Mem) (a i : Nat) (v : UInt64) (a' i' : Nat) : zJ (zsD μ a i v) a' i' = (zJ μ a' i') := rfl
theorem zD_zsD (μ : Mem) (a i : Nat) (v : UInt64) (a' i' : Nat) : zD (zsD μ a i v) a' i' = (if a' = a then (if i' = i then v else zD μ a' i') else zD μ a' i') := rfl
theorem zS_zsD (μ : Mem) (a i : Nat) (v : UInt64) : zS (zsD μ a i v)  = (zS μ ) := rfl
theorem zC_zNew (μ : Mem) (c n : Nat) (a' : Nat) : zC (zNew μ c n) a' = (if a' = zS μ then c else zC μ a') := rfl
theorem zN_zNew (μ : Mem) (c n : Nat) (a' : Nat) : zN (zNew μ c n) a' = (if a' = zS μ then n else zN μ a') := rfl
theorem zI_zNew (μ : Mem) (c n : Nat) (g' a' : Nat) : zI (zNew μ c n) g' a' = (if a' = zS μ then 0 else zI μ g' a') := rfl
theorem zR_zNew (μ : Mem) (c n : Nat) (g' a' : Nat) : zR (zNew μ c n) g' a' = (if a' = zS μ then none else zR μ g' a') := rfl
theorem zA_zNew (μ : Mem) (c n : Nat) (a' i' : Nat) : zA (zNew μ c n) a' i' = (if a' = zS μ then 0 else zA μ a' i') := rfl
theorem zQ_zNew (μ : Mem) (c n : Nat) (a' i' : Nat) : zQ (zNew μ c n) a' i' = (if a' = zS μ then none else zQ μ a' i') := rfl
theorem zJ_zNew (μ : Mem) (c n : Nat) (a' i' : Nat) : zJ (zNew μ c n) a' i' = (if a' = zS μ then 0 else zJ μ a' i') := rfl
theorem zD_zNew (μ : Mem) (c n : Nat) (a' i' : Nat) : zD (zNew μ c n) a' i' = (if a' = zS μ then 0 else zD μ a' i') := rfl
theorem zS_zNew (μ : Mem) (c n : Nat) : zS (zNew μ c n)  = (zS μ + 1) := rfl
theorem zC_zcA (μ : Mem) (a : Nat) (f : Nat → Int32) (a' : Nat) : zC (zcA μ a f) a' = (zC μ a') := rfl
theorem zN_zcA (μ : Mem) (a : Nat) (f : Nat → Int32) (a' : Nat) : zN (zcA μ a f) a' = (zN μ a') := rfl
theorem zI_zcA (μ : Mem) (a : Nat) (f : Nat → Int32) (g' a' : Nat) : zI (zcA μ a f) g' a' = (zI μ g' a') := rfl
theorem zR_zcA (μ : Mem) (a : Nat) (f : Nat → Int32) (g' a' : Nat) : zR (zcA μ a f) g' a' = (zR μ g' a') := rfl
theorem zA_zcA (μ : Mem) (a : Nat) (f : Nat → Int32) (a' i' : Nat) : zA (zcA μ a f) a' i' = (if a' = a then f i' else zA μ a' i') := rfl
theorem zQ_zcA (μ : Mem) (a : Nat) (f : Nat → Int32) (a' i' : Nat) : zQ (zcA μ a f) a' i' = (zQ μ a' i') := rfl
theorem zJ_zcA (μ : Mem) (a : Nat) (f : Nat → Int32) (a' i' : Nat) : zJ (zcA μ a f) a' i' = (zJ μ a' i') := rfl
theorem zD_zcA (μ : Mem) (a : Nat) (f : Nat → Int32) (a' i' : Nat) : zD (zcA μ a f) a' i' = (zD μ a' i') := rfl
theorem zS_zcA (μ : Mem) (a : Nat) (f : Nat → Int32) : zS (zcA μ a f)  = (zS μ ) := rfl
theorem zC_zcQ (μ : Mem) (a : Nat) (f : Nat → Option Nat) (a' : Nat) : zC (zcQ μ a f) a' = (zC μ a') := rfl
theorem zN_zcQ (μ : Mem) (a : Nat) (f : Nat → Option Nat) (a' : Nat) : zN (zcQ μ a f) a' = (zN μ a') := rfl
theorem zI_zcQ (μ : Mem) (a : Nat) (f : Nat → Option Nat) (g' a' : Nat) : zI (zcQ μ a f) g' a' = (zI μ g' a') := rfl
theorem zR_zcQ (μ : Mem) (a : Nat) (f : Nat → Option Nat) (g' a' : Nat) : zR (zcQ μ a f) g' a' = (zR μ g' a') := rfl
theorem zA_zcQ (μ : Mem) (a : Nat) (f : Nat → Option Nat) (a' i' : Nat) : zA (zcQ μ a f) a' i' = (zA μ a' i') := rfl
theorem zQ_zcQ (μ : Mem) (a : Nat) (f : Nat → Option Nat) (a' i' : Nat) : zQ (zcQ μ a f) a' i' = (if a' = a then f i' else zQ μ a' i') := rfl
theorem zJ_zcQ (μ : Mem) (a : Nat) (f : Nat → Option Nat) (a' i' : Nat) : zJ (zcQ μ a f) a' i' = (zJ μ a' i') := rfl
theorem zD_zcQ (μ : Mem) (a : Nat) (f : Nat → Option Nat) (a' i' : Nat) : zD (zcQ μ a f) a' i' = (zD μ a' i') := rfl
theorem zS_zcQ (μ : Mem) (a : Nat) (f : Nat → Option Nat) : zS (zcQ μ a f)  = (zS μ ) := rfl
theorem z2_eq {α : Type} (f : Nat → Nat → α) (i j : Nat) (v : α) : z2 f i j v i j = v := by simp [z2]
-- the world's constants: launch, class numbers and field places, base (all cells below are old), the old heap, addresses of String constants, values of statics, addresses of Class objects
abbrev WT : Type := Launch × va_G × Nat × Heap × (Nat → Nat) × (Nat → TV) × (Nat → Nat)
def zL (w : WT) : Launch := w.1
def zG (w : WT) : va_G := w.2.1
def zB (w : WT) : Nat := w.2.2.1
def zH0 (w : WT) : Heap := w.2.2.2.1
def zSa (w : WT) : Nat → Nat := w.2.2.2.2.1
def zSt (w : WT) : Nat → TV := w.2.2.2.2.2.1
def zMi (w : WT) : Nat → Nat := w.2.2.2.2.2.2
-- a method's run, fixed: program, environment, state at entry, method, arguments, frames below, its data, its code, frames and local words of its room
abbrev GT : Type := Program × Env × State × MethodId × Array Value × List Frame × Method × Code × Nat × Nat
abbrev gp (g : GT) : Program := g.1
abbrev ge (g : GT) : Env := g.2.1
abbrev gs (g : GT) : State := g.2.2.1
abbrev gm (g : GT) : MethodId := g.2.2.2.1
abbrev ga (g : GT) : Array Value := g.2.2.2.2.1
abbrev gb (g : GT) : List Frame := g.2.2.2.2.2.1
abbrev gh (g : GT) : Method := g.2.2.2.2.2.2.1
abbrev gc (g : GT) : Code := g.2.2.2.2.2.2.2.1
abbrev gf (g : GT) : Nat := g.2.2.2.2.2.2.2.2.1
abbrev gl (g : GT) : Nat := g.2.2.2.2.2.2.2.2.2
-- outcomes: an answer (or none), or a thrown object
abbrev Out : Type := Option TV ⊕ Nat
/-- what field k of class code c holds at a: its global number and whether it is a reference -/
def zfv (μ : Mem) (a c k : Nat) : Value := match (zFl c)[k]? with
  | some (g, true) => va_rf (zR μ g a)
  | some (g, false) => .int (zI μ g a)
  | none => .null
/-- what element j of an array of class code c holds -/
def zav (μ : Mem) (a c j : Nat) : Value := if 120 ≤ c then va_rf (zQ μ a j) else if c = 110 then .long (zJ μ a j) else if c = 111 then .double (zD μ a j) else .int (zA μ a j)
def zPc (w : WT) (μ : Mem) (a c : Nat) (cell : Cell) : Prop :=
  (c < 100 → (c = 13 ∨ c = 14 → 6 ≤ cell.slots.size) ∧ ∀ k, k < (zFl c).length → cell.slots[(zG w).2 c k]? = some (zfv μ a c k)) ∧ (100 ≤ c → cell.slots.size = zN μ a ∧ ∀ j, j < zN μ a → cell.slots[j]? = some (zav μ a c j))
def zat (w : WT) (μ : Mem) (a : Nat) (H : Heap) : Prop := zC μ a ≠ 0 → ∃ cell : Cell, H[a]? = some cell ∧ cell.cls = (zG w).1 (zC μ a) ∧ (zB w ≤ a → cell.vm = .none) ∧ cell.vm ≠ .unknown ∧ cell.vm.isStatics = false ∧ zPc w μ a (zC μ a) cell
/-- classes of which no object is older than the law -/
def zFz (c : Nat) : Bool := decide (c < 100) && (c != 23 && c != 24)
/-- the heap H holds the memory; what is older than the law is as it was -/
def Rep (w : WT) (μ : Mem) (H : Heap) : Prop := H.size = zS μ ∧ zB w ≤ H.size ∧ (∀ q, q < zB w → H[q]? = (zH0 w)[q]?) ∧ (∀ a, zC μ a ≠ 0 → zC μ a < 200 ∧ (zFz (zC μ a) = true → zB w ≤ a)) ∧ ∀ a, zat w μ a H
theorem Rep.lt {w : WT} {μ : Mem} {H : Heap} (h : Rep w μ H) {a : Nat} (ha : zC μ a ≠ 0) : a < zS μ := by
  obtain ⟨cell, h1, -⟩ := h.2.2.2.2 a ha
  rw [← h.1]
  exact (Array.getElem?_eq_some_iff.mp h1).1
/-- a write at one cell -/
theorem Rep.put {w : WT} {μ μ' : Mem} {H H' : Heap} {a : Nat} {cell cell' : Cell} (h : Rep w μ H) (hs : zS μ' = zS μ) (hc : ∀ b, zC μ' b = zC μ b) (ho : ∀ b, b ≠ a → ∀ cl, zPc w μ b (zC μ b) cl → zPc w μ' b (zC μ b) cl)
    (hb : zB w ≤ a) (h1 : H[a]? = some cell) (e1 : H'[a]? = some cell') (ec : cell'.cls = cell.cls) (ev : cell'.vm = cell.vm) (hp : zPc w μ a (zC μ a) cell → zPc w μ' a (zC μ a) cell') (e2 : H'.size = H.size) (e3 : ∀ q, q ≠ a → H'[q]? = H[q]?) : Rep w μ' H' := by
  obtain ⟨a1, a2, a3, a4, a5⟩ := h
  refine ⟨by rw [e2, hs]; exact a1, by rw [e2]; exact a2, fun q hq => ?_, fun b hb => by rw [hc b] at hb ⊢; exact a4 b hb, fun b hz => ?_⟩
  · have : q ≠ a := by intro z; subst z; exact absurd hq (Nat.not_lt.mpr hb)
    rw [e3 q this]; exact a3 q hq
  · rw [hc b] at hz ⊢
    obtain ⟨cl, b1, b2, b3, b4, b5, b6⟩ := a5 b hz
    by_cases hba : b = a
    · subst hba
      cases Option.some.inj (h1.symm.trans b1)
      exact ⟨cell', e1, ec.trans b2, fun z => ev.trans (b3 z), by rw [ev]; exact b4, by rw [ev]; exact b5, hp b6⟩
    · exact ⟨cl, (e3 b hba).trans b1, b2, b3, b4, b5, ho b hba cl b6⟩
/-- a new cell -/
theorem Rep.new {w : WT} {μ : Mem} {H H' : Heap} {c n : Nat} {cell : Cell} (h : Rep w μ H) (hc : c < 200) (e1 : H'[H.size]? = some cell) (ec : cell.cls = (zG w).1 c) (ev : cell.vm = .none) (hp : zPc w (zNew μ c n) (zS μ) c cell) (e2 : H'.size = H.size + 1) (e3 : ∀ q, q < H.size → H'[q]? = H[q]?) : Rep w (zNew μ c n) H' := by
  obtain ⟨a1, a2, a3, a4, a5⟩ := h
  refine ⟨by rw [e2, a1]; rfl, by omega, fun q hq => by rw [e3 q (by omega)]; exact a3 q hq, fun b hb => ?_, fun b hz => ?_⟩
  · rw [zC_zNew] at hb ⊢
    split at hb
    · rename_i z; rw [if_pos z]; exact ⟨hc, fun _ => by rw [z, ← a1]; exact a2⟩
    · rename_i z; rw [if_neg z]; exact a4 b hb
  · rw [zC_zNew] at hz ⊢
    by_cases hb : b = zS μ
    · subst hb
      rw [if_pos rfl] at hz ⊢
      exact ⟨cell, (by rw [← a1]; exact e1), ec, fun _ => ev, (by rw [ev]; exact fun z => (by cases z)), (by rw [ev]; rfl), hp⟩
    · rw [if_neg hb] at hz ⊢
      obtain ⟨cl, b1, b2, b3, b4, b5, b6, b7⟩ := a5 b hz
      refine ⟨cl, by rw [e3 b (Array.getElem?_eq_some_iff.mp b1).1]; exact b1, b2, b3, b4, b5, ?_, ?_⟩
      · intro h0
        refine ⟨(b6 h0).1, fun k hk => ?_⟩
        rw [(b6 h0).2 k hk]
        unfold zfv
        split <;> simp [zI_zNew, zR_zNew, hb]
      · intro h0
        obtain ⟨c1, c2⟩ := b7 h0
        refine ⟨by rw [zN_zNew, if_neg hb]; exact c1, fun j hj => ?_⟩
        rw [zN_zNew, if_neg hb] at hj
        rw [c2 j hj]
        unfold zav
        simp [zA_zNew, zQ_zNew, zJ_zNew, zD_zNew, hb]
-- ===== what the world says of a state (KW), a method's fixed facts (Cx), the judgement Z, the triple Tr =====
def zNwk (c : Cond) : Bool := match c with
  | .fieldLinkNest .. => true
  | .methodLinkNest .. => true
  | .castable .. => true
  | .declares _ => true
  | _ => false
def zNw : List Cond := lw_tbl.filter zNwk
theorem zNw_mem {c : Cond} (h : c ∈ lw_tbl) (hk : zNwk c = true) : c ∈ zNw := List.mem_filter.mpr ⟨h, hk⟩
theorem zNw_moved {c : Cond} {s U : State} (h : zNwk c = true) (hW : s.WarmedH U.vm) (hZ : va_Nw c s) : va_Nw c U := by
  cases c <;> first | exact va_Nw.warmF hW hZ | exact va_Nw.warmM hW hZ | exact va_Nw.warmC hW hZ | exact va_Nw.warmD hW hZ | cases h
theorem zNwk_tab {c : Cond} (h : zNwk c = true) : c.onTables = true := by
  cases c <;> first | rfl | cases h
def zty (w : WT) : List (ClassId × FieldType) := [((zG w).1 101, .int), ((zG w).1 102, .byte), ((zG w).1 110, .long), ((zG w).1 111, .double), ((zG w).1 120, .object "java/lang/Object"), ((zG w).1 121, .object "java/lang/Integer")]
def zOn : MethodName := ⟨"HutRidge$Placed", "isOn", "(I)Z"⟩
def zOnH : MethodName := ⟨"HutRidge$Hut", "isOn", "(I)Z"⟩
/-- private methods called through a subclass -/
def zsel : List (String × MethodName) := [("HutRidge$SkipList$1", ⟨"HutRidge$SkipList$Search", "canGoOn", "(I)Z"⟩), ("HutRidge$SkipList$2", ⟨"HutRidge$SkipList$Search", "canGoOn", "(I)Z"⟩), ("java/lang/StringBuilder", ⟨"java/lang/AbstractStringBuilder", "ensureCapacityInternal", "(I)V"⟩), ("java/lang/StringBuilder", ⟨"java/lang/AbstractStringBuilder", "inflateIfNeededFor", "(Ljava/lang/String;)V"⟩), ("java/lang/StringBuilder", ⟨"java/lang/AbstractStringBuilder", "newCapacity", "(I)I"⟩), ("java/lang/StringBuilder", ⟨"java/lang/AbstractStringBuilder", "putStringAt", "(ILjava/lang/String;)V"⟩)]
/-- the words of getClass() by the interface Collection -/
def zgcN : MethodName := ⟨"java/lang/Object", "getClass", "()Ljava/lang/Class;"⟩
def zGC (U : State) : Prop := (Cond.interfaceMethod "java/util/Collection" "java/lang/Object" "getClass" "()Ljava/lang/Class;").before #[] U = true ∧ (Cond.publicMethod zgcN).before #[] U = true ∧ ∀ C ∈ ["java/util/TreeMap$KeySet", "java/util/TreeMap$Values"], (Cond.unhidden C "getClass" "()Ljava/lang/Class;").before #[] U = true ∧ (Cond.castable C "java/util/Collection").before #[] U = true
theorem zGC.moved {s U : State} (hW : s.WarmedH U.vm) (h : zGC s) : zGC U := by
  have tr : ∀ {c : Cond}, c.onTables = true → c.before #[] (s.setVm U.vm) = true → c.before #[] U = true := by
    intro c hc h
    have e := Cond.onTables_vm (A := #[]) (A' := #[]) (U := s) (U' := U) U.vm c hc
    have hU : U.setVm U.vm = U := rfl
    rw [hU] at e
    rw [← e]
    exact h
  obtain ⟨h1, h2, h3⟩ := h
  refine ⟨tr rfl ?_, tr rfl (by rw [Cond.publicMethod_setVm hW.alike]; exact h2), fun C hC => ⟨tr rfl (by rw [Cond.unhidden_setVm hW.alike]; exact (h3 C hC).1), tr rfl (by rw [Cond.castable_setVm hW.alike]; exact (h3 C hC).2)⟩⟩
  have e : (Cond.interfaceMethod "java/util/Collection" "java/lang/Object" "getClass" "()Ljava/lang/Class;").before #[] (s.setVm U.vm) = (Cond.interfaceMethod "java/util/Collection" "java/lang/Object" "getClass" "()Ljava/lang/Class;").before #[] s := by
    simp only [Cond.before, Cond.holds, Cond.value, State.vm_setVm, hW.alike.findClass, State.methodFound?_setVm hW.alike, State.methodNamed?_setVm hW.alike, arm_isInterface_setVm hW.alike]
  rw [e]; exact h1
/-- the words of the default method -/
def zDef (U : State) : Prop := va_Fw "HutRidge$Hut" zOn zOn U ∧ (Cond.landsInDefault "HutRidge$Hut" zOn zOn).before #[] U = true ∧ (Cond.landsInDefault "HutRidge$Hut" zOnH zOn).before #[] U = true ∧
  (Cond.methodLink "HutRidge$Times" 44 zOnH).before #[] U = true ∧ (Cond.methodLink "HutRidge$Ridge" 87 zOnH).before #[] U = true ∧ (Cond.sameMethod "HutRidge$Hut" "HutRidge$Placed" "isOn" "(I)Z").before #[] U = true ∧ (∀ q ∈ zsel, (Cond.selects q.1 q.2 q.2).before #[] U = true) ∧ zGC U
theorem zLands {C : String} {x y : MethodName} {A A' : Array Value} {s U : State} (hW : s.WarmedH U.vm) (h : (Cond.landsInDefault C x y).before A s = true) : (Cond.landsInDefault C x y).before A' U = true := by
  have h1 : (Cond.landsInDefault C x y).before A (s.setVm U.vm) = true := (Cond.landsInDefault_setVm hW.alike (State.methodFound?_setVm hW.alike _ _ _)).trans h
  exact h1
theorem zDef.moved {s U : State} (hW : s.WarmedH U.vm) (h : zDef s) : zDef U := by
  obtain ⟨h1, h2, h3, h4, h5, h6, h7, h8⟩ := h
  exact ⟨h1.moved (by decide) hW.alike, zLands hW h2, zLands hW h3, word_at hW (good_of_word rfl) h4, word_at hW (good_of_word rfl) h5, word_at hW (good_of_word rfl) h6, fun q hq => word_at hW (good_of_word rfl) (h7 q hq), h8.moved hW⟩
def KW (w : WT) (U : State) : Prop :=
  (zL w).stackTraces = false ∧ va_K (zG w) zcl (zty w) U ∧ (∀ c ∈ zNw, va_Nw c U) ∧ (∀ q ∈ zfw, va_Fw q.1 q.2.1 q.2.2 U) ∧ (∀ q ∈ znc, va_Nc q.1 q.2 U) ∧
  (∀ (k : Nat) (q : String × Nat × String), zstr[k]? = some q → vk_R q.1 q.2.1 q.2.2 (zSa w k) U) ∧
  (∀ (k : Nat) (q : String × String × String), zsta[k]? = some q → va_Z q.1 q.2.1 q.2.2 (tv (zSt w k)) (fun a => zB w ≤ a) U (zH0 w)) ∧
  (vx_Zq Bundle.tN "UNASSIGNED_STACK" Bundle.steD (fun a => zB w ≤ a) U (zH0 w) ∧ vx_Zq Bundle.tN "SUPPRESSED_SENTINEL" Bundle.listD (fun a => zB w ≤ a) U (zH0 w)) ∧
  (∀ (k : Nat) (C : String), zmir[k]? = some C → va_Mi C (zMi w k) U) ∧ va_Dc U ∧ va_AO "java/lang/Object" U ∧ (zH0 w).size = zB w ∧ zDef U
theorem KW.moved {w : WT} {s U : State} (h : KW w s) (hW : s.WarmedH U.vm) : KW w U := by
  obtain ⟨h1, h2, h3, h4, h5, h6, h7, h8, h9, h10, h11, h12, h13⟩ := h
  exact ⟨h1, h2.moved hW.alike, fun c hc => zNw_moved (List.mem_filter.mp hc).2 hW (h3 c hc), fun q hq => (h4 q hq).moved (zfw_ok q hq) hW.alike, fun q hq => (h5 q hq).moved hW.alike, fun k q hq => (h6 k q hq).warm hW, fun k q hq => (h7 k q hq).moved hW.alike, ⟨h8.1.moved hW.alike, h8.2.moved hW.alike⟩, fun k C hk => (h9 k C hk).moved hW.alike, h10.moved hW.alike, h11.moved hW.alike, h12, h13.moved hW⟩
def Cx (w : WT) (g : GT) (y : MethodName) (cc : ByteArray) (nL : Nat) (ret : Option FieldType) (hh : List (Nat × Nat × Nat × Nat)) (fr lo : Nat) : Prop :=
  (gp g).tables.exec = Jvm.exec ∧ (gc g).code = cc ∧ (gc g).maxLocals = nL ∧ (gh g).sig.returnType = ret ∧ (gh g).locks = false ∧ (gs g).vm.findClass y.cls = some (gm g).cls ∧ (∀ c ∈ lw_all, c.before (ga g) (gs g) = true) ∧ (gc g).exceptionTable.toList = tableOf hh ∧ KW w (gs g) ∧ (zB w ≤ (gs g).heap.size ∧ ∀ q, q < zB w → (gs g).heap[q]? = (zH0 w)[q]?) ∧ (gh g).name = y.name ∧ gf g = fr ∧ gl g = lo
def zQc (w : WT) (K : Out → Mem → Prop) : Array Value → State → Outcome → State → Prop := fun _ _ o t => ∃ (v : Option TV) (μ : Mem), o = .returned (v.map tv) ∧ Rep w μ t.heap ∧ K (.inl v) μ
def zXC (w : WT) (K : Out → Mem → Prop) : String → Nat → State → State → Prop := fun E q _ t => ∃ (μ : Mem) (r : vw_C), Rep w μ t.heap ∧ K (.inr q) μ ∧ zC μ q < 100 ∧ zC μ q ≠ 0 ∧ zFz (zC μ q) = true ∧ zcl[zC μ q]? = some r ∧ r.1 = E
def zlv (q : Nat × TV) : Nat × Value := (q.1, tv q.2)
abbrev gR (g : GT) (mc ms : Nat) : Room := { frames := gf g, cells := mc, slots := ms, locals := gl g }
abbrev gQ (w : WT) (g : GT) (K : Out → Mem → Prop) (mc ms : Nat) : State → Prop := vx_MQ (gb g) (zQc w K) (zXC w K) (ga g) (gs g) mc ms (fun q => zB w ≤ q)
def Z (w : WT) (g : GT) (K : Out → Mem → Prop) (mc ms pc : Nat) (lv : List (Nat × TV)) (st : List TV) (μ : Mem) (kc ks : Nat) : Prop :=
  ∀ (H : Heap) (locs : List Loc) (ls : Array Slot), Rep w μ H → (gs g).heap.size ≤ H.size → (∀ l ∈ locs, zB w ≤ l.base) → lv_has ls (gc g).maxLocals (lv.map zlv) → kc ≤ mc → ks ≤ ms →
    W (gp g) (zL w) (ge g) (gR g mc ms) (gs g) (gm g) (ga g) (gb g) (gh g) (gc g) H locs kc ks (gQ w g K mc ms) (F0 (gm g) pc ls (st.map tv))
/-- the object q is thrown over the method's frame -/
def ZX (w : WT) (g : GT) (K : Out → Mem → Prop) (mc ms pc : Nat) (lv : List (Nat × TV)) (q : Nat) (μ : Mem) (kc ks : Nat) : Prop :=
  ∀ (H : Heap) (locs : List Loc) (ls : Array Slot) (st : List Value), Rep w μ H → (gs g).heap.size ≤ H.size → (∀ l ∈ locs, zB w ≤ l.base) → lv_has ls (gc g).maxLocals (lv.map zlv) → kc ≤ mc → ks ≤ ms →
    vx_W (gp g) (zL w) (ge g) (gR g mc ms) (gs g) (gm g) (ga g) (gb g) (gh g) (gc g) H locs kc ks (gQ w g K mc ms) (F0 (gm g) pc ls st) q
def Tr (w : WT) (y : MethodName) (ws : List Cond) (fr lo : Nat) (as : List TV) (μ : Mem) (mc ms : Nat) (K : Out → Mem → Prop) : Prop :=
  vx_Met (zL w) y ws { frames := fr, cells := mc, slots := ms, locals := lo } (fun v U => v = (as.map tv).toArray ∧ KW w U ∧ Rep w μ U.heap) (zQc w K) (zXC w K) mc ms (fun q => zB w ≤ q)
theorem Z.sub {w : WT} {g : GT} {K : Out → Mem → Prop} {mc ms pc : Nat} {lv lv' : List (Nat × TV)} {st : List TV} {μ : Mem} {kc ks : Nat} (is : List Nat) (h : is.filterMap (fun i => lv[i]?) = lv') (k : Z w g K mc ms pc lv' st μ kc ks) : Z w g K mc ms pc lv st μ kc ks := by
  intro H locs ls a b c d e f
  refine k H locs ls a b c ?_ e f
  refine lv_sub d is ?_
  rw [← h, lv_pick]
  simp only [List.getElem?_map, List.map_filterMap]
theorem Z.widen {w : WT} {g : GT} {K : Out → Mem → Prop} {mc ms pc : Nat} {lv : List (Nat × TV)} {st : List TV} {μ : Mem} {kc ks kc' ks' : Nat} (h1 : kc ≤ kc') (h2 : ks ≤ ks') (h3 : kc' ≤ mc) (h4 : ks' ≤ ms) (k : Z w g K mc ms pc lv st μ kc' ks') : Z w g K mc ms pc lv st μ kc ks :=
  fun H locs ls a b c d _ _ => W.widen h1 h2 (k H locs ls a b c d h3 h4)
theorem zEntry_lv (as : List TV) : ∀ n, (lv_args n (as.map tv)) = (lv_args n (as.map tv)) := fun _ => rfl
def zargs : Nat → List TV → List (Nat × TV)
  | _, [] => []
  | n, a :: as => (n, a) :: zargs (if tcat a then n + 2 else n + 1) as
theorem zargs_eq : ∀ (as : List TV) (n : Nat), lv_args n (as.map tv) = (zargs n as).map zlv := by
  intro as
  induction as with
  | nil => intro n; rfl
  | cons a as ih =>
    intro n
    have h := tv_cat a
    show lv_args n (tv a :: as.map tv) = _
    simp only [lv_args, zargs, List.map_cons, zlv]
    cases ht : tcat a with
    | true =>
      rw [ht] at h
      have h2 : (tv a).category = 2 := by simpa using h
      simp only [h2, if_true, ih]
    | false =>
      rw [ht] at h
      have h2 : ¬ (tv a).category = 2 := by simpa using h
      simp [h2, ih]
theorem zargs_len (as : List TV) : (lg_sl (as.map tv)).length = (as.map fun a => if tcat a then 2 else 1).sum := by
  induction as with
  | nil => rfl
  | cons a as ih =>
    have h := tv_cat a
    simp only [lg_sl, List.map_cons, List.flatMap_cons, List.length_append, List.sum_cons] at ih ⊢
    rw [← ih]
    cases ht : tcat a with
    | true =>
      rw [ht] at h
      have h2 : (tv a).category = 2 := by simpa using h
      simp [h2]
    | false =>
      rw [ht] at h
      have h2 : ¬ (tv a).category = 2 := by simpa using h
      simp [h2]
theorem zBlind {w : WT} {as : List TV} {μ : Mem} : FrameBlind (fun (v : Array Value) (U : State) => v = (as.map tv).toArray ∧ KW w U ∧ Rep w μ U.heap) := fun a U g mk h => ⟨h.1, h.2.1.moved (State.WarmedH.refl U), h.2.2⟩
theorem zSt0 {w : WT} {μ : Mem} {s : State} (h : Rep w μ s.heap) : zB w ≤ s.heap.size ∧ ∀ q, q < zB w → s.heap[q]? = (zH0 w)[q]? := ⟨h.2.1, h.2.2.1⟩
/-- a method without handlers: its contract from its body -/
theorem Tr.of {w : WT} {y : MethodName} {cc : ByteArray} {nL : Nat} {ret : Option FieldType} {fr lo : Nat} {as : List TV} {μ : Mem} {mc ms : Nat} {K : Out → Mem → Prop} (hy : plainFor y = true) (hn : (as.map fun a => if tcat a then 2 else 1).sum ≤ nL)
    (k : ∀ g : GT, Cx w g y cc nL ret [] fr lo → Z w g K mc ms 0 (zargs 0 as) [] μ 0 0) : Tr w y (ws_ y cc nL ret) fr lo as μ mc ms K := by
  refine vx_ofW (cc := cc) (maxL := nL) (ret := ret) hy rfl ?_
  intro p e s m args below meth c s₁ B hml hout hv
  obtain ⟨rfl, hK, hR⟩ := hv
  have hts := atoms_spec (ws := ws_ y cc nL ret) B.pre
  have C : Cx w (p, e, s, m, (as.map tv).toArray, below, meth, c, fr, lo) y cc nL ret [] fr lo := ⟨B.exec, B.bytes, hml, B.returns, B.notSynchronized, findClass_of_methodNamed B.named, fun x h => hts x (List.mem_cons_of_mem _ h), (by
    show c.exceptionTable.toList = []
    cases hc : c.exceptionTable.toList with
    | nil => rfl
    | cons x l => exact absurd (hout x (by rw [hc]; exact List.mem_cons_self)) (fun h => h)), hK, zSt0 hR, (name_of_methodNamed B.named B.method).1, rfl, rfl⟩
  have hl := lv_entry (as.map tv) (n := nL) (by rw [zargs_len]; exact hn)
  rw [lg_entry_eq]
  rw [zargs_eq] at hl
  exact k _ C s.heap [] _ hR (Nat.le_refl _) (fun _ h => by cases h) (by rw [show (gc (p, e, s, m, (as.map tv).toArray, below, meth, c, fr, lo)).maxLocals = nL from hml]; exact hl) (Nat.zero_le _) (Nat.zero_le _)
/-- a method with handlers -/
theorem Tr.ofW {w : WT} {y : MethodName} {cc : ByteArray} {nL : Nat} {ret : Option FieldType} {hh : List (Nat × Nat × Nat × Nat)} {fr lo : Nat} {as : List TV} {μ : Mem} {mc ms : Nat} {K : Out → Mem → Prop} (hy : plainFor y = true) (hn : (as.map fun a => if tcat a then 2 else 1).sum ≤ nL)
    (k : ∀ g : GT, Cx w g y cc nL ret hh fr lo → Z w g K mc ms 0 (zargs 0 as) [] μ 0 0) : Tr w y (wsW_ y cc nL ret hh) fr lo as μ mc ms K := by
  refine vx_ofWH (cc := cc) (maxL := nL) (ret := ret) (hh := hh) hy rfl ?_
  intro p e s m args below meth c s₁ B hml hv
  obtain ⟨rfl, hK, hR⟩ := hv
  have hts := atoms_spec (ws := wsW_ y cc nL ret hh) B.pre
  have C : Cx w (p, e, s, m, (as.map tv).toArray, below, meth, c, fr, lo) y cc nL ret hh fr lo := ⟨B.exec, B.bytes, hml, B.returns, B.notSynchronized, findClass_of_methodNamed B.named, fun x h => hts x (List.mem_cons_of_mem _ h), vx_table (x := y) B (hts _ List.mem_cons_self), hK, zSt0 hR, (name_of_methodNamed B.named B.method).1, rfl, rfl⟩
  have hl := lv_entry (as.map tv) (n := nL) (by rw [zargs_len]; exact hn)
  rw [lg_entry_eq]
  rw [zargs_eq] at hl
  exact k _ C s.heap [] _ hR (Nat.le_refl _) (fun _ h => by cases h) (by rw [show (gc (p, e, s, m, (as.map tv).toArray, below, meth, c, fr, lo)).maxLocals = nL from hml]; exact hl) (Nat.zero_le _) (Nat.zero_le _)

/-- what holds of every memory that a heap holds -/
def zM (w : WT) (μ : Mem) : Prop := (∀ a, zC μ a ≠ 0 → a < zS μ ∧ zC μ a < 200 ∧ (zFz (zC μ a) = true → zB w ≤ a)) ∧ zB w ≤ zS μ
theorem Rep.zM {w : WT} {μ : Mem} {H : Heap} (h : Rep w μ H) : zM w μ := ⟨fun a ha => ⟨h.lt ha, (h.2.2.2.1 a ha).1, (h.2.2.2.1 a ha).2⟩, by rw [← h.1]; exact h.2.1⟩
theorem Z.wm {w : WT} {g : GT} {K : Out → Mem → Prop} {mc ms pc : Nat} {lv : List (Nat × TV)} {st : List TV} {μ : Mem} {kc ks : Nat} (k : zM w μ → Z w g K mc ms pc lv st μ kc ks) : Z w g K mc ms pc lv st μ kc ks := fun H locs ls a b c d e f => k a.zM H locs ls a b c d e f
theorem Z.kk {w : WT} {g : GT} {K : Out → Mem → Prop} {mc ms pc : Nat} {lv : List (Nat × TV)} {st : List TV} {μ : Mem} {kc ks : Nat} (k : kc ≤ mc → ks ≤ ms → Z w g K mc ms pc lv st μ kc ks) : Z w g K mc ms pc lv st μ kc ks := fun H locs ls a b c d e f => k e f H locs ls a b c d e f
theorem zC_new (μ : Mem) (c n : Nat) : zC (zNew μ c n) (zS μ) = c := by rw [zC_zNew, if_pos rfl]
theorem zN_new (μ : Mem) (c n : Nat) : zN (zNew μ c n) (zS μ) = n := by rw [zN_zNew, if_pos rfl]
