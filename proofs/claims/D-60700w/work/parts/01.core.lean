/-! CORE: an abstract machine over a typed heap. No program in sight: a heap of numbered cells, instructions as predicate
transformers, and the least judgement that is closed under them (wp_). Cell 0 stands for null. -/
set_option maxRecDepth 100000

/-- cls, len; fields (by field, then cell): FI FJ FR; arrays (by cell, then place): AI AJ AR; next cell, cells spent, slots spent -/
abbrev HP : Type := (Nat → Nat) × (Nat → Nat) × (Nat → Nat → Int32) × (Nat → Nat → Int64) × (Nat → Nat → Nat) × (Nat → Nat → Int32) × (Nat → Nat → Int64) × (Nat → Nat → Nat) × Nat × Nat × Nat
def hcls (h : HP) : Nat → Nat := h.1
def hlen (h : HP) : Nat → Nat := h.2.1
def fI (h : HP) : Nat → Nat → Int32 := h.2.2.1
def fJ (h : HP) : Nat → Nat → Int64 := h.2.2.2.1
def fR (h : HP) : Nat → Nat → Nat := h.2.2.2.2.1
def aI (h : HP) : Nat → Nat → Int32 := h.2.2.2.2.2.1
def aJ (h : HP) : Nat → Nat → Int64 := h.2.2.2.2.2.2.1
def aR (h : HP) : Nat → Nat → Nat := h.2.2.2.2.2.2.2.1
def hsz (h : HP) : Nat := h.2.2.2.2.2.2.2.2.1
def hnc (h : HP) : Nat := h.2.2.2.2.2.2.2.2.2.1
def hns (h : HP) : Nat := h.2.2.2.2.2.2.2.2.2.2
def up1 {α : Type} (f : Nat → α) (a : Nat) (v : α) : Nat → α := fun b => if b = a then v else f b
def up2 {α : Type} (f : Nat → Nat → α) (a i : Nat) (v : α) : Nat → Nat → α := up1 f a (up1 (f a) i v)
/-- field f of cell a -/
def pI (h : HP) (f a : Nat) (v : Int32) : HP := (h.1, h.2.1, up2 h.2.2.1 f a v, h.2.2.2)
def pJ (h : HP) (f a : Nat) (v : Int64) : HP := (h.1, h.2.1, h.2.2.1, up2 h.2.2.2.1 f a v, h.2.2.2.2)
def pR (h : HP) (f a : Nat) (v : Nat) : HP := (h.1, h.2.1, h.2.2.1, h.2.2.2.1, up2 h.2.2.2.2.1 f a v, h.2.2.2.2.2)
/-- place i of the array a -/
def tI (h : HP) (a i : Nat) (v : Int32) : HP := (h.1, h.2.1, h.2.2.1, h.2.2.2.1, h.2.2.2.2.1, up2 h.2.2.2.2.2.1 a i v, h.2.2.2.2.2.2)
def tJ (h : HP) (a i : Nat) (v : Int64) : HP := (h.1, h.2.1, h.2.2.1, h.2.2.2.1, h.2.2.2.2.1, h.2.2.2.2.2.1, up2 h.2.2.2.2.2.2.1 a i v, h.2.2.2.2.2.2.2)
def tR (h : HP) (a i : Nat) (v : Nat) : HP := (h.1, h.2.1, h.2.2.1, h.2.2.2.1, h.2.2.2.2.1, h.2.2.2.2.2.1, h.2.2.2.2.2.2.1, up2 h.2.2.2.2.2.2.2.1 a i v, h.2.2.2.2.2.2.2.2)
/-- a whole array at once -/
def wI (h : HP) (a : Nat) (f : Nat → Int32) : HP := (h.1, h.2.1, h.2.2.1, h.2.2.2.1, h.2.2.2.2.1, up1 h.2.2.2.2.2.1 a f, h.2.2.2.2.2.2)
def wJ (h : HP) (a : Nat) (f : Nat → Int64) : HP := (h.1, h.2.1, h.2.2.1, h.2.2.2.1, h.2.2.2.2.1, h.2.2.2.2.2.1, up1 h.2.2.2.2.2.2.1 a f, h.2.2.2.2.2.2.2)
/-- a new cell of class c, n long, that costs k slots; all 0 -/
def hnew (h : HP) (c n k : Nat) : HP := (up1 (hcls h) (hsz h) c, up1 (hlen h) (hsz h) n, fun f => up1 (fI h f) (hsz h) 0, fun f => up1 (fJ h f) (hsz h) 0, fun f => up1 (fR h f) (hsz h) 0,
  up1 (aI h) (hsz h) (fun _ => 0), up1 (aJ h) (hsz h) (fun _ => 0), up1 (aR h) (hsz h) (fun _ => 0), hsz h + 1, hnc h + 1, hns h + k)
/-- n arrays of class c, each k long, one behind another -/
def hrows (h : HP) (c k : Nat) : Nat → HP
  | 0 => h
  | n + 1 => hnew (hrows h c k n) c k k
/-- int[n][k]: the row of rows, then its rows -/
def hnew2 (h : HP) (c2 c n k : Nat) : HP :=
  let g := hrows (hnew h c2 n n) c k n
  (hcls g, hlen g, fI g, fJ g, fR g, aI g, aJ g, up1 (aR g) (hsz h) (fun i => if i < n then hsz h + 1 + i else 0), hsz g, hnc g, hns g)

/-! locals: Value.null stands for 'nothing is known of it' -/
def lget : List Value → Nat → Value
  | [], _ => .null
  | v :: _, 0 => v
  | _ :: t, k + 1 => lget t k
def lhd : Value → Value
  | .long _ => .null
  | v => v
def lset : List Value → Nat → Value → List Value
  | [], _, _ => []
  | _ :: t, 0, x => x :: t
  | v :: t, 1, x => lhd v :: lset t 0 x
  | v :: t, k + 2, x => v :: lset t (k + 1) x
def lset2 (ls : List Value) (k : Nat) (x : Value) : List Value := lset (lset ls (k + 1) .null) k x
def lmk : List Bool → List Value → List Value
  | true :: m, v :: t => v :: lmk m t
  | false :: m, _ :: t => .null :: lmk m t
  | _, _ => []
def lspr : List Value → List Value
  | [] => []
  | .long x :: t => .long x :: .null :: lspr t
  | v :: t => v :: lspr t
def lpad : Nat → List Value → List Value
  | 0, _ => []
  | n + 1, [] => .null :: lpad n []
  | n + 1, v :: t => v :: lpad n t
def ltake : Nat → List Value → List Value → List Value
  | 0, _, acc => acc
  | _ + 1, [], acc => acc
  | n + 1, v :: t, acc => ltake n t (v :: acc)
def ldrop : Nat → List Value → List Value
  | 0, l => l
  | _ + 1, [] => []
  | n + 1, _ :: t => ldrop n t

/-- at most so many words on the stack -/
def stk : Nat → List Value → Bool
  | _, [] => true
  | n + 2, .long _ :: t => stk n t
  | n + 1, .int _ :: t => stk n t
  | n + 1, .ref _ :: t => stk n t
  | _, _ => false
/-- n values, and behind them at most 8 words -/
def stn : Nat → List Value → Bool
  | 0, st => stk 8 st
  | _ + 1, [] => false
  | n + 1, _ :: t => stn n t
abbrev AO : Type := Option Value ⊕ Nat
abbrev Kt : Type := Nat → List Value → List Value → HP → Prop
abbrev Tt : Type := AO → HP → Prop
abbrev Ct : Type := Nat → List Value → HP → Tt → Prop
abbrev SF : Type := Ct → Kt → Tt → List Value → List Value → HP → Prop

/-! Java's shifts -/
def zshl (x y : Int32) : Int32 := x <<< (y &&& 31)
def zshr (x y : Int32) : Int32 := x >>> (y &&& 31)
def zush (x y : Int32) : Int32 := (x.toUInt32 >>> (y.toUInt32 &&& Int32.toUInt32 31)).toInt32
def zlsl (x : Int64) (y : Int32) : Int64 := x <<< (y.toInt64 &&& 63)
def zlsr (x : Int64) (y : Int32) : Int64 := x >>> (y.toInt64 &&& 63)
def zlus (x : Int64) (y : Int32) : Int64 := (x.toUInt64 >>> (y.toInt64.toUInt64 &&& Int64.toUInt64 63)).toInt64
def jmin : Int64 := Int64.minValue
def jmax : Int64 := Int64.maxValue
/-- if c then A else B, without a decision -/
def zif (c A B : Prop) : Prop := (c → A) ∧ (¬ c → B)
theorem zif_i {c A B : Prop} (h1 : c → A) (h2 : ¬ c → B) : zif c A B := ⟨h1, h2⟩
theorem zif_t {c A B : Prop} (hc : c) (h : A) : zif c A B := ⟨fun _ => h, fun n => absurd hc n⟩
theorem zif_f {c A B : Prop} (hc : ¬ c) (h : B) : zif c A B := ⟨fun n => absurd n hc, fun _ => h⟩
theorem zif_true (A B : Prop) : zif True A B = A := propext ⟨fun h => h.1 trivial, fun h => ⟨fun _ => h, fun n => absurd trivial n⟩⟩
theorem zif_false (A B : Prop) : zif False A B = B := propext ⟨fun h => h.2 (fun n => n), fun h => ⟨fun n => n.elim, fun _ => h⟩⟩
/-! instructions -/
def op_c (v : Value) (nx : Nat) : SF := fun _ K _ ls st h => K nx ls (v :: st) h
def op_il (k nx : Nat) : SF := fun _ K _ ls st h => match lget ls k with
  | .int x => K nx ls (.int x :: st) h
  | _ => False
def op_ll (k nx : Nat) : SF := fun _ K _ ls st h => match lget ls k with
  | .long x => K nx ls (.long x :: st) h
  | _ => False
def op_al (k nx : Nat) : SF := fun _ K _ ls st h => match lget ls k with
  | .ref a => K nx ls (.ref a :: st) h
  | _ => False
def op_is (k nx : Nat) : SF := fun _ K _ ls st h => match st with
  | .int x :: st => K nx (lset ls k (.int x)) st h
  | _ => False
def op_isn (k nx : Nat) : SF := fun _ K _ ls st h => match st with
  | .int x :: st => ∀ z : Int32, z = x → K nx (lset ls k (.int z)) st h
  | _ => False
def op_ls (k nx : Nat) : SF := fun _ K _ ls st h => match st with
  | .long x :: st => K nx (lset2 ls k (.long x)) st h
  | _ => False
def op_lsn (k nx : Nat) : SF := fun _ K _ ls st h => match st with
  | .long x :: st => ∀ z : Int64, z = x → K nx (lset2 ls k (.long z)) st h
  | _ => False
def op_as (k nx : Nat) : SF := fun _ K _ ls st h => match st with
  | .ref a :: st => K nx (lset ls k (.ref a)) st h
  | _ => False
def op_inc (k : Nat) (v : Int32) (nx : Nat) : SF := fun _ K _ ls st h => match lget ls k with
  | .int x => K nx (lset ls k (.int (x + v))) st h
  | _ => False
def op_ii (f : Int32 → Int32 → Int32) (nx : Nat) : SF := fun _ K _ ls st h => match st with
  | .int y :: .int x :: st => K nx ls (.int (f x y) :: st) h
  | _ => False
def op_id (f : Int32 → Int32 → Int32) (nx : Nat) : SF := fun _ K _ ls st h => match st with
  | .int y :: .int x :: st => ¬ y = 0 ∧ K nx ls (.int (f x y) :: st) h
  | _ => False
def op_i1 (f : Int32 → Int32) (nx : Nat) : SF := fun _ K _ ls st h => match st with
  | .int x :: st => K nx ls (.int (f x) :: st) h
  | _ => False
def op_ll2 (f : Int64 → Int64 → Int64) (nx : Nat) : SF := fun _ K _ ls st h => match st with
  | .long y :: .long x :: st => K nx ls (.long (f x y) :: st) h
  | _ => False
def op_ld (f : Int64 → Int64 → Int64) (nx : Nat) : SF := fun _ K _ ls st h => match st with
  | .long y :: .long x :: st => ¬ y = 0 ∧ K nx ls (.long (f x y) :: st) h
  | _ => False
def op_l1 (f : Int64 → Int64) (nx : Nat) : SF := fun _ K _ ls st h => match st with
  | .long x :: st => K nx ls (.long (f x) :: st) h
  | _ => False
def op_lsh (f : Int64 → Int32 → Int64) (nx : Nat) : SF := fun _ K _ ls st h => match st with
  | .int y :: .long x :: st => K nx ls (.long (f x y) :: st) h
  | _ => False
def op_i2l (nx : Nat) : SF := fun _ K _ ls st h => match st with
  | .int x :: st => K nx ls (.long x.toInt64 :: st) h
  | _ => False
def op_l2i (nx : Nat) : SF := fun _ K _ ls st h => match st with
  | .long x :: st => K nx ls (.int x.toInt32 :: st) h
  | _ => False
def op_go (t : Nat) : SF := fun _ K _ ls st h => K t ls st h
def op_eq0 (t nx : Nat) : SF := fun _ K _ ls st h => match st with
  | .int x :: st => zif (x = 0) (K t ls st h) (K nx ls st h)
  | _ => False
def op_ne0 (t nx : Nat) : SF := fun _ K _ ls st h => match st with
  | .int x :: st => zif (x = 0) (K nx ls st h) (K t ls st h)
  | _ => False
def op_lt0 (t nx : Nat) : SF := fun _ K _ ls st h => match st with
  | .int x :: st => zif (x < 0) (K t ls st h) (K nx ls st h)
  | _ => False
def op_ge0 (t nx : Nat) : SF := fun _ K _ ls st h => match st with
  | .int x :: st => zif (x < 0) (K nx ls st h) (K t ls st h)
  | _ => False
def op_gt0 (t nx : Nat) : SF := fun _ K _ ls st h => match st with
  | .int x :: st => zif (0 < x) (K t ls st h) (K nx ls st h)
  | _ => False
def op_le0 (t nx : Nat) : SF := fun _ K _ ls st h => match st with
  | .int x :: st => zif (0 < x) (K nx ls st h) (K t ls st h)
  | _ => False
def op_eqi (t nx : Nat) : SF := fun _ K _ ls st h => match st with
  | .int y :: .int x :: st => zif (x = y) (K t ls st h) (K nx ls st h)
  | _ => False
def op_nei (t nx : Nat) : SF := fun _ K _ ls st h => match st with
  | .int y :: .int x :: st => zif (x = y) (K nx ls st h) (K t ls st h)
  | _ => False
def op_lti (t nx : Nat) : SF := fun _ K _ ls st h => match st with
  | .int y :: .int x :: st => zif (x < y) (K t ls st h) (K nx ls st h)
  | _ => False
def op_gei (t nx : Nat) : SF := fun _ K _ ls st h => match st with
  | .int y :: .int x :: st => zif (x < y) (K nx ls st h) (K t ls st h)
  | _ => False
def op_gti (t nx : Nat) : SF := fun _ K _ ls st h => match st with
  | .int y :: .int x :: st => zif (y < x) (K t ls st h) (K nx ls st h)
  | _ => False
def op_lei (t nx : Nat) : SF := fun _ K _ ls st h => match st with
  | .int y :: .int x :: st => zif (y < x) (K nx ls st h) (K t ls st h)
  | _ => False
/-- lcmp and the branch behind it, as one -/
def op_eql (t nx : Nat) : SF := fun _ K _ ls st h => match st with
  | .long y :: .long x :: st => zif (x = y) (K t ls st h) (K nx ls st h)
  | _ => False
def op_nel (t nx : Nat) : SF := fun _ K _ ls st h => match st with
  | .long y :: .long x :: st => zif (x = y) (K nx ls st h) (K t ls st h)
  | _ => False
def op_ltl (t nx : Nat) : SF := fun _ K _ ls st h => match st with
  | .long y :: .long x :: st => zif (x < y) (K t ls st h) (K nx ls st h)
  | _ => False
def op_gel (t nx : Nat) : SF := fun _ K _ ls st h => match st with
  | .long y :: .long x :: st => zif (x < y) (K nx ls st h) (K t ls st h)
  | _ => False
def op_gtl (t nx : Nat) : SF := fun _ K _ ls st h => match st with
  | .long y :: .long x :: st => zif (y < x) (K t ls st h) (K nx ls st h)
  | _ => False
def op_lel (t nx : Nat) : SF := fun _ K _ ls st h => match st with
  | .long y :: .long x :: st => zif (y < x) (K nx ls st h) (K t ls st h)
  | _ => False
def op_nul (t nx : Nat) : SF := fun _ K _ ls st h => match st with
  | .ref a :: st => zif (a = 0) (K t ls st h) (K nx ls st h)
  | _ => False
def op_nnl (t nx : Nat) : SF := fun _ K _ ls st h => match st with
  | .ref a :: st => zif (a = 0) (K nx ls st h) (K t ls st h)
  | _ => False
def swk (K : Kt) (ls st : List Value) (h : HP) (x : Int32) (dflt : Nat) : List (Int32 × Nat) → Prop
  | [] => K dflt ls st h
  | q :: t => zif (x = q.1) (K q.2 ls st h) (swk K ls st h x dflt t)
def op_sw (dflt : Nat) (tb : List (Int32 × Nat)) : SF := fun _ K _ ls st h => match st with
  | .int x :: st => swk K ls st h x dflt tb
  | _ => False
def op_dup (nx : Nat) : SF := fun _ K _ ls st h => match st with
  | .int x :: st => K nx ls (.int x :: .int x :: st) h
  | .ref x :: st => K nx ls (.ref x :: .ref x :: st) h
  | _ => False
/-- dup2 over two ints or references -/
def op_dup2 (nx : Nat) : SF := fun _ K _ ls st h => match st with
  | .int y :: .int x :: st => K nx ls (.int y :: .int x :: .int y :: .int x :: st) h
  | .int y :: .ref x :: st => K nx ls (.int y :: .ref x :: .int y :: .ref x :: st) h
  | _ => False
def op_dupl (nx : Nat) : SF := fun _ K _ ls st h => match st with
  | .long x :: st => K nx ls (.long x :: .long x :: st) h
  | _ => False
def op_pop (nx : Nat) : SF := fun _ K _ ls st h => match st with
  | .int _ :: st => K nx ls st h
  | .ref _ :: st => K nx ls st h
  | _ => False
def op_popl (nx : Nat) : SF := fun _ K _ ls st h => match st with
  | .long _ :: st => K nx ls st h
  | _ => False
/-! fields: c is the class (or the list of classes) of the object -/
def inC (cs : List Nat) (c : Nat) : Bool := cs.contains c
def op_gI (c f nx : Nat) : SF := fun _ K _ ls st h => match st with
  | .ref a :: st => hcls h a = c ∧ K nx ls (.int (fI h f a) :: st) h
  | _ => False
def op_gJ (c f nx : Nat) : SF := fun _ K _ ls st h => match st with
  | .ref a :: st => hcls h a = c ∧ K nx ls (.long (fJ h f a) :: st) h
  | _ => False
def op_gR (c f nx : Nat) : SF := fun _ K _ ls st h => match st with
  | .ref a :: st => hcls h a = c ∧ K nx ls (.ref (fR h f a) :: st) h
  | _ => False
def op_gIs (cs : List Nat) (f nx : Nat) : SF := fun _ K _ ls st h => match st with
  | .ref a :: st => inC cs (hcls h a) = true ∧ K nx ls (.int (fI h f a) :: st) h
  | _ => False
def op_pI (c f nx : Nat) : SF := fun _ K _ ls st h => match st with
  | .int v :: .ref a :: st => hcls h a = c ∧ ∀ g, g = pI h f a v → K nx ls st g
  | _ => False
def op_pZ (c f nx : Nat) : SF := fun _ K _ ls st h => match st with
  | .int v :: .ref a :: st => hcls h a = c ∧ (v = 0 ∨ v = 1) ∧ ∀ g, g = pI h f a v → K nx ls st g
  | _ => False
def op_pJ (c f nx : Nat) : SF := fun _ K _ ls st h => match st with
  | .long v :: .ref a :: st => hcls h a = c ∧ ∀ g, g = pJ h f a v → K nx ls st g
  | _ => False
def op_pR (c f nx : Nat) : SF := fun _ K _ ls st h => match st with
  | .ref v :: .ref a :: st => hcls h a = c ∧ ∀ g, g = pR h f a v → K nx ls st g
  | _ => False
def op_pIs (cs : List Nat) (f nx : Nat) : SF := fun _ K _ ls st h => match st with
  | .int v :: .ref a :: st => inC cs (hcls h a) = true ∧ ∀ g, g = pI h f a v → K nx ls st g
  | _ => False
def op_pZs (cs : List Nat) (f nx : Nat) : SF := fun _ K _ ls st h => match st with
  | .int v :: .ref a :: st => inC cs (hcls h a) = true ∧ (v = 0 ∨ v = 1) ∧ ∀ g, g = pI h f a v → K nx ls st g
  | _ => False
/-! arrays; their classes: 1 int[], 2 byte[], 3 boolean[], 4 long[], 5 int[][], 6 Thing[] -/
def inb (i : Int32) (n : Nat) : Prop := ¬ i < 0 ∧ i.toNatClampNeg < n
def op_aI (c nx : Nat) : SF := fun _ K _ ls st h => match st with
  | .int i :: .ref a :: st => hcls h a = c ∧ inb i (hlen h a) ∧ K nx ls (.int (aI h a i.toNatClampNeg) :: st) h
  | _ => False
def op_aJ (nx : Nat) : SF := fun _ K _ ls st h => match st with
  | .int i :: .ref a :: st => hcls h a = 4 ∧ inb i (hlen h a) ∧ K nx ls (.long (aJ h a i.toNatClampNeg) :: st) h
  | _ => False
def op_aR (c nx : Nat) : SF := fun _ K _ ls st h => match st with
  | .int i :: .ref a :: st => hcls h a = c ∧ inb i (hlen h a) ∧ K nx ls (.ref (aR h a i.toNatClampNeg) :: st) h
  | _ => False
def op_tI (nx : Nat) : SF := fun _ K _ ls st h => match st with
  | .int v :: .int i :: .ref a :: st => hcls h a = 1 ∧ inb i (hlen h a) ∧ ∀ g, g = tI h a i.toNatClampNeg v → K nx ls st g
  | _ => False
def op_tB (nx : Nat) : SF := fun _ K _ ls st h => match st with
  | .int v :: .int i :: .ref a :: st => hcls h a = 2 ∧ inb i (hlen h a) ∧ ∀ g, g = tI h a i.toNatClampNeg v.toInt8.toInt32 → K nx ls st g
  | _ => False
def op_tZ (nx : Nat) : SF := fun _ K _ ls st h => match st with
  | .int v :: .int i :: .ref a :: st => hcls h a = 3 ∧ (v = 0 ∨ v = 1) ∧ inb i (hlen h a) ∧ ∀ g, g = tI h a i.toNatClampNeg v → K nx ls st g
  | _ => False
def op_tJ (nx : Nat) : SF := fun _ K _ ls st h => match st with
  | .long v :: .int i :: .ref a :: st => hcls h a = 4 ∧ inb i (hlen h a) ∧ ∀ g, g = tJ h a i.toNatClampNeg v → K nx ls st g
  | _ => False
def op_tR (c nx : Nat) (cs : List Nat) : SF := fun _ K _ ls st h => match st with
  | .ref v :: .int i :: .ref a :: st => hcls h a = c ∧ (v = 0 ∨ inC cs (hcls h v) = true) ∧ inb i (hlen h a) ∧ ∀ g, g = tR h a i.toNatClampNeg v → K nx ls st g
  | _ => False
/-- an int[] into an int[][] -/
def op_tA (nx : Nat) : SF := fun _ K _ ls st h => match st with
  | .ref v :: .int i :: .ref a :: st => hcls h a = 5 ∧ hcls h v = 1 ∧ inb i (hlen h a) ∧ ∀ g, g = tR h a i.toNatClampNeg v → K nx ls st g
  | _ => False
def op_len (c nx : Nat) : SF := fun _ K _ ls st h => match st with
  | .ref a :: st => hcls h a = c ∧ K nx ls (.int (Int32.ofNat (hlen h a)) :: st) h
  | _ => False
def op_new (c n nx : Nat) : SF := fun _ K _ ls st h => ∀ g a, g = hnew h c 0 n → a = hsz h → K nx ls (.ref a :: st) g
def op_na (c nx : Nat) : SF := fun _ K _ ls st h => match st with
  | .int n :: st => ¬ n < 0 ∧ n.toNatClampNeg ≤ 2000000 ∧ ∀ g a, g = hnew h c n.toNatClampNeg n.toNatClampNeg → a = hsz h → K nx ls (.ref a :: st) g
  | _ => False
def op_na2 (nx : Nat) : SF := fun _ K _ ls st h => match st with
  | .int k :: .int n :: st => ¬ n < 0 ∧ ¬ k < 0 ∧ n.toNatClampNeg ≤ 2000 ∧ k.toNatClampNeg ≤ 2000 ∧ ∀ g a, g = hnew2 h 5 1 n.toNatClampNeg k.toNatClampNeg → a = hsz h → K nx ls (.ref a :: st) g
  | _ => False
def op_cast (cs : List Nat) (nx : Nat) : SF := fun _ K _ ls st h => match st with
  | .ref a :: st => (a = 0 ∨ inC cs (hcls h a) = true) ∧ K nx ls (.ref a :: st) h
  | _ => False
def op_iof (ok cs : List Nat) (nx : Nat) : SF := fun _ K _ ls st h => match st with
  | .ref a :: st => inC ok (hcls h a) = true ∧ zif (inC cs (hcls h a) = true) (K nx ls (.int 1 :: st) h) (K nx ls (.int 0 :: st) h)
  | _ => False
/-! exceptions: a row is (from, to, handler, the classes that it takes) -/
abbrev XT : Type := List (Nat × Nat × Nat × List Nat)
def xgo (K : Kt) (T : Tt) (pc r : Nat) (ls : List Value) (h : HP) : XT → Prop
  | [] => T (.inr r) h
  | q :: t => bif Nat.ble q.1 pc && Nat.blt pc q.2.1 then zif (inC q.2.2.2 (hcls h r) = true) (K q.2.2.1 ls [.ref r] h) (xgo K T pc r ls h t) else xgo K T pc r ls h t
/-- the classes of what is thrown -/
def exT : List Nat := [48, 49, 50, 60, 61, 62, 63, 64, 65, 66, 67]
def op_thr (pc : Nat) (xt : XT) : SF := fun _ K T ls st h => match st with
  | .ref r :: _ => ¬ r = 0 ∧ inC exT (hcls h r) = true ∧ xgo K T pc r ls h xt
  | _ => False
/-! calls -/
def kpost (K : Kt) (T : Tt) (pc nx : Nat) (xt : XT) (ls st : List Value) : Tt := fun o h => match o with
  | .inl none => K nx ls st h
  | .inl (some v) => K nx ls (v :: st) h
  | .inr r => xgo K T pc r ls h xt
/-- static methods, constructors, private methods: the method is known; n values are taken -/
def op_call (m n pc nx : Nat) (xt : XT) : SF := fun C K T ls st h => bif stn n st then C m (ltake n st []) h (kpost K T pc nx xt ls (ldrop n st)) else False
def vgo (C : Ct) (P : Tt) (args : List Value) (h : HP) (c : Nat) : List (Nat × Nat) → Prop
  | [] => False
  | [q] => c = q.1 ∧ C q.2 args h P
  | q :: t => zif (c = q.1) (C q.2 args h P) (vgo C P args h c t)
/-- by the receiver's class -/
def op_virt (vt : List (Nat × Nat)) (n pc nx : Nat) (xt : XT) : SF := fun C K T ls st h => match ltake n st [] with
  | .ref a :: as => bif stn n st then vgo C (kpost K T pc nx xt ls (ldrop n st)) (.ref a :: as) h (hcls h a) vt else False
  | _ => False
/-- one method for objects of several classes -/
def op_fin (m : Nat) (cs : List Nat) (n pc nx : Nat) (xt : XT) : SF := fun C K T ls st h => match ltake n st [] with
  | .ref a :: as => bif stn n st then inC cs (hcls h a) = true ∧ C m (.ref a :: as) h (kpost K T pc nx xt ls (ldrop n st)) else False
  | _ => False
def op_ret : SF := fun _ _ T _ st h => match st with
  | [] => T (.inl none) h
  | _ => False
def op_reti : SF := fun _ _ T _ st h => match st with
  | [.int x] => T (.inl (some (.int x))) h
  | _ => False
def op_retz : SF := fun _ _ T _ st h => match st with
  | [.int x] => (x = 0 ∨ x = 1) ∧ T (.inl (some (.int x))) h
  | _ => False
def op_retl : SF := fun _ _ T _ st h => match st with
  | [.long x] => T (.inl (some (.long x))) h
  | _ => False
def op_reta : SF := fun _ _ T _ st h => match st with
  | [.ref x] => T (.inl (some (.ref x))) h
  | _ => False
/-- System.arraycopy over ints, bytes, longs -/
def cpI (f g : Nat → Int32) (sp dp n : Nat) : Nat → Int32 := fun k => if dp ≤ k ∧ k < dp + n then f (sp + (k - dp)) else g k
def cpJ (f g : Nat → Int64) (sp dp n : Nat) : Nat → Int64 := fun k => if dp ≤ k ∧ k < dp + n then f (sp + (k - dp)) else g k
def op_cpI (c nx : Nat) : SF := fun _ K _ ls st h => match st with
  | .int n :: .int dp :: .ref b :: .int sp :: .ref a :: st => bif stk 8 st then (hcls h a = c ∧ hcls h b = c ∧ ¬ n < 0 ∧ ¬ dp < 0 ∧ ¬ sp < 0 ∧ sp.toNatClampNeg + n.toNatClampNeg ≤ hlen h a ∧ dp.toNatClampNeg + n.toNatClampNeg ≤ hlen h b ∧
      ∀ g, g = wI h b (cpI (aI h a) (aI h b) sp.toNatClampNeg dp.toNatClampNeg n.toNatClampNeg) → K nx ls st g) else False
  | _ => False
/-- bytes: what is copied is bytes -/
def isB (x : Int32) : Prop := x.toInt8.toInt32 = x
def op_cpB (nx : Nat) : SF := fun _ K _ ls st h => match st with
  | .int n :: .int dp :: .ref b :: .int sp :: .ref a :: st => bif stk 8 st then (hcls h a = 2 ∧ hcls h b = 2 ∧ ¬ n < 0 ∧ ¬ dp < 0 ∧ ¬ sp < 0 ∧ sp.toNatClampNeg + n.toNatClampNeg ≤ hlen h a ∧ dp.toNatClampNeg + n.toNatClampNeg ≤ hlen h b ∧
      (∀ i, i < n.toNatClampNeg → isB (aI h a (sp.toNatClampNeg + i))) ∧ ∀ g, g = wI h b (cpI (aI h a) (aI h b) sp.toNatClampNeg dp.toNatClampNeg n.toNatClampNeg) → K nx ls st g) else False
  | _ => False
def op_cpJ (nx : Nat) : SF := fun _ K _ ls st h => match st with
  | .int n :: .int dp :: .ref b :: .int sp :: .ref a :: st => bif stk 8 st then (hcls h a = 4 ∧ hcls h b = 4 ∧ ¬ n < 0 ∧ ¬ dp < 0 ∧ ¬ sp < 0 ∧ sp.toNatClampNeg + n.toNatClampNeg ≤ hlen h a ∧ dp.toNatClampNeg + n.toNatClampNeg ≤ hlen h b ∧
      ∀ g, g = wJ h b (cpJ (aJ h a) (aJ h b) sp.toNatClampNeg dp.toNatClampNeg n.toNatClampNeg) → K nx ls st g) else False
  | _ => False
/-- string constants: the references from strB on -/
def strB : Nat := 1000000000
def op_slen (tx : Nat → List Nat) (nx : Nat) : SF := fun _ K _ ls st h => match st with
  | .ref a :: st => bif stk 8 st then (strB ≤ a ∧ K nx ls (.int (Int32.ofNat (tx (a - strB)).length) :: st) h) else False
  | _ => False
def op_schr (tx : Nat → List Nat) (nx : Nat) : SF := fun _ K _ ls st h => match st with
  | .int i :: .ref a :: st => bif stk 8 st then (strB ≤ a ∧ inb i (tx (a - strB)).length ∧ K nx ls (.int (Int32.ofNat ((tx (a - strB)).getD i.toNatClampNeg 0)) :: st) h) else False
  | _ => False
/-- where a sign is first; -1 -/
def sidx (l : List Nat) (c : Int32) (k : Nat) : Int32 := match l with
  | [] => -1
  | x :: t => if c = Int32.ofNat x then Int32.ofNat k else sidx t c (k + 1)
def op_sidx (tx : Nat → List Nat) (nx : Nat) : SF := fun _ K _ ls st h => match st with
  | .int c :: .ref a :: st => bif stk 8 st then (strB ≤ a ∧ K nx ls (.int (sidx (tx (a - strB)) c 0) :: st) h) else False
  | _ => False
/-- new E(), dup, its constructor: an exception of the library's, class c -/
def op_exc (c nx : Nat) : SF := fun _ K _ ls st h => bif stk 8 st then ∀ g a, g = hnew h c 0 6 → a = hsz h → K nx ls (.ref a :: st) g else False
/-- new, dup, a number, the constructor: an exception of our own with a number -/
def bkS (c f : Nat) (v : Int32) (nx : Nat) (K : Kt) (ls st : List Value) (h : HP) : Prop := bif stk 7 st then (∀ g a, g = pI (hnew h c 0 7) f a v → a = hsz h → K nx ls (.ref a :: st) g) else False
def op_bkL (c f k nx : Nat) : SF := fun _ K _ ls st h => match lget ls k with
  | .int v => bkS c f v nx K ls st h
  | _ => False
def op_bkC (c f : Nat) (v : Int32) (nx : Nat) : SF := fun _ K _ ls st h => bkS c f v nx K ls st h
def op_bkF (c f fc ff nx : Nat) : SF := fun _ K _ ls st h => match lget ls 0 with
  | .ref b => hcls h b = fc ∧ bkS c f (fI h ff b) nx K ls st h
  | _ => False
def op_bkG (c f fc ff nx : Nat) : SF := fun _ K _ ls st h => match lget ls 0 with
  | .ref b => hcls h b = fc ∧ bkS c f (fI h ff b - 1) nx K ls st h
  | _ => False
/-- Object's constructor -/
def op_oi (nx : Nat) : SF := fun _ K _ ls st h => match st with
  | .ref a :: st => bif stk 8 st then ¬ hcls h a = 0 ∧ K nx ls st h else False
  | _ => False
/-- from no stack -/
def op_bad : SF := fun _ _ _ _ _ _ => False
/-! code tables: a stop bears the mask of the locals that live there -/
abbrev CE : Type := Option (List Bool) × SF
abbrev CT : Type := Nat → Option CE
def ct_n : CT := fun _ => none
def ct_b (k : Nat) (l r : CT) : CT := fun pc => bif Nat.blt pc k then l pc else r pc
def ct_l (n : Nat) (e : SF) (t : CT) : CT := fun pc => bif Nat.beq pc n then some (none, e) else t pc
def ct_s (n : Nat) (m : List Bool) (e : SF) (t : CT) : CT := fun pc => bif Nat.beq pc n then some (some m, e) else t pc
/-- a method's code by its number, and how many locals it has -/
abbrev PG : Type := Nat → Option (Nat × CT)
abbrev XJ : Type := Nat → Nat → Nat → List Value → List Value → HP → Tt → Prop
def cX (G : PG) (X : XJ) : Nat → Ct
  | 0 => fun _ _ _ _ => False
  | d + 1 => fun m as h P => match G m with
    | some q => bif Nat.ble (lspr as).length q.1 then X d m 0 (lpad q.1 (lspr as)) [] h P else False
    | none => False
/-- fewer locals known -/
def lle : List Value → List Value → Prop
  | [], [] => True
  | .null :: t, _ :: t' => lle t t'
  | v :: t, v' :: t' => v = v' ∧ lle t t'
  | _, _ => False
def leq : List Bool → List Value → Bool
  | [], [] => true
  | _ :: t, _ :: t' => leq t t'
  | _, _ => false
def Clo (G : PG) (X : XJ) : Prop :=
  (∀ (d m pc : Nat) (ls st : List Value) (h : HP) (Q : Tt) (n : Nat) (T : CT) (q : CE), G m = some (n, T) → T pc = some q → ∀ (C' : Ct) (K' : Kt) (T' : Tt),
    (∀ m' as h P, C' m' as h P → cX G X d m' as h P) → (∀ pc ls st h, K' pc ls st h → X d m pc ls st h Q) → (∀ o h, T' o h → Q o h) → q.2 C' K' T' ls st h → X d m pc ls st h Q) ∧
  ∀ (d m pc : Nat) (ls ls' st : List Value) (h : HP) (Q : Tt), lle ls' ls → X d m pc ls' st h Q → X d m pc ls st h Q
theorem cX_mono {G : PG} {X Y : XJ} (hXY : ∀ d m pc ls st h P, X d m pc ls st h P → Y d m pc ls st h P) : ∀ (d m : Nat) (as : List Value) (h : HP) (P : Tt), cX G X d m as h P → cX G Y d m as h P
  | 0, _, _, _, _, k => k
  | d + 1, m, as, h, P, k => by
    show (match G m with | some q => bif Nat.ble (lspr as).length q.1 then Y d m 0 (lpad q.1 (lspr as)) [] h P else False | none => False)
    have k : (match G m with | some q => bif Nat.ble (lspr as).length q.1 then X d m 0 (lpad q.1 (lspr as)) [] h P else False | none => False) := k
    cases hg : G m with
    | none => rw [hg] at k; exact k
    | some q =>
      rw [hg] at k
      cases hb : Nat.ble (lspr as).length q.1 with
      | true => simp only [hb, cond_true] at k ⊢; exact hXY _ _ _ _ _ _ _ k
      | false => simp only [hb, cond_false] at k
/-- d frames are left; method m stands at pc with these locals and this stack: it ends with Q -/
def wp (G : PG) (d m pc : Nat) (ls st : List Value) (h : HP) (Q : Tt) : Prop := ∀ X : XJ, Clo G X → X d m pc ls st h Q
theorem wp.fold {G : PG} {d m pc : Nat} {ls st : List Value} {h : HP} {Q : Tt} {n : Nat} {T : CT} {q : CE} {K' : Kt} (hG : G m = some (n, T)) (hT : T pc = some q) (hK : ∀ pc ls st h, K' pc ls st h → wp G d m pc ls st h Q)
    (H : q.2 (cX G (wp G) d) K' Q ls st h) : wp G d m pc ls st h Q := by
  intro X hX
  refine hX.1 d m pc ls st h Q n T q hG hT (cX G (wp G) d) K' Q ?_ (fun pc ls st h k => hK pc ls st h k X hX) (fun _ _ k => k) H
  exact fun m' as h P k => cX_mono (fun d m pc ls st h P k => k X hX) d m' as h P k
theorem wp.weak {G : PG} {d m pc : Nat} {ls ls' st : List Value} {h : HP} {Q : Tt} (hl : lle ls' ls) (H : wp G d m pc ls' st h Q) : wp G d m pc ls st h Q :=
  fun X hX => hX.2 d m pc ls ls' st h Q hl (H X hX)
theorem wp.mono {G : PG} {d m pc : Nat} {ls st : List Value} {h : HP} {Q Q' : Tt} (H : wp G d m pc ls st h Q) (hQ : ∀ o h, Q o h → Q' o h) : wp G d m pc ls st h Q' := by
  refine H (fun d m pc ls st h Q => ∀ Q' : Tt, (∀ o h, Q o h → Q' o h) → wp G d m pc ls st h Q') ⟨?_, ?_⟩ Q' hQ
  · intro d m pc ls st h Q n T q hG hT C' K' T' hC hK hT' hs Q' hQ' X hX
    refine hX.1 d m pc ls st h Q' n T q hG hT C' K' T' ?_ (fun pc ls st h k => hK pc ls st h k Q' hQ' X hX) (fun o h k => hQ' o h (hT' o h k)) hs
    exact fun m' as h P k => cX_mono (fun d m pc ls st h P k => k P (fun _ _ z => z) X hX) d m' as h P (hC m' as h P k)
  · intro d m pc ls ls' st h Q hl hx Q' hQ'
    exact wp.weak hl (hx Q' hQ')
theorem lle_mk : ∀ (m : List Bool) (l : List Value), leq m l = true → lle (lmk m l) l
  | true :: m, v :: t, e => by
    have h := lle_mk m t e
    cases v <;> simp [lmk, lle, h]
  | false :: m, v :: t, e => by
    have h := lle_mk m t e
    simp [lmk, lle, h]
  | [], [], _ => by simp [lmk, lle]
  | [], _ :: _, e => by simp [leq] at e
  | _ :: _, [], e => by simp [leq] at e
/-- on up to the next stops -/
def runN (G : PG) (T : CT) (d m : Nat) (Q : Tt) : Nat → Kt
  | 0 => fun _ _ _ _ => False
  | n + 1 => fun pc ls st h => match T pc with
    | some (some k, _) => bif leq k ls then wp G d m pc (lmk k ls) st h Q else False
    | some (none, f) => f (cX G (wp G) d) (runN G T d m Q n) Q ls st h
    | none => False
theorem runN_ok {G : PG} {T : CT} {d m : Nat} {Q : Tt} {k : Nat} (hG : G m = some (k, T)) : ∀ (n pc : Nat) (ls st : List Value) (h : HP), runN G T d m Q n pc ls st h → wp G d m pc ls st h Q
  | 0, _, _, _, _, H => H.elim
  | n + 1, pc, ls, st, h, H => by
    unfold runN at H
    split at H
    · rename_i k _ e
      cases hl : leq k ls with
      | true => rw [hl] at H; exact wp.weak (lle_mk _ _ hl) H
      | false => rw [hl] at H; exact H.elim
    · rename_i f e
      exact wp.fold hG e (runN_ok hG n) H
    · exact H.elim
/-- a block: from the stop pc on -/
theorem wp.blk {G : PG} {T : CT} {d m pc k : Nat} {ls st : List Value} {h : HP} {Q : Tt} {mk : Option (List Bool)} {f : SF} (n : Nat) (hG : G m = some (k, T)) (e : T pc = some (mk, f)) (H : f (cX G (wp G) d) (runN G T d m Q n) Q ls st h) : wp G d m pc ls st h Q :=
  wp.fold hG e (runN_ok hG n) H
/-- behind a call: it goes on at nx with the answer; what is thrown goes out -/
def kq (G : PG) (d m nx : Nat) (ls st : List Value) (Q : Tt) : Tt := fun o h => match o with
  | .inl none => wp G d m nx ls st h Q
  | .inl (some v) => wp G d m nx ls (v :: st) h Q
  | .inr r => Q (.inr r) h
/-- .. what is thrown goes to X -/
def kqx (G : PG) (d m nx : Nat) (ls st : List Value) (Q : Tt) (X : Nat → HP → Prop) : Tt := fun o h => match o with
  | .inl none => wp G d m nx ls st h Q
  | .inl (some v) => wp G d m nx ls (v :: st) h Q
  | .inr r => X r h
