/-! PART 05: how the flat memory lies in the real heap -/
set_option maxRecDepth 100000
def cR : Nat → String := fun c => match c with
  | 0 => RX0
  | 1 => RX1
  | 2 => RX2
  | 3 => RX3
  | 4 => RX4
  | 5 => RX5
  | 6 => RX6
  | 7 => RX7
  | 8 => RX8
  | 9 => RX9
  | 10 => RX10
  | 11 => RX11
  | 12 => RX12
  | 13 => RX13
  | 14 => RX14
  | 15 => RX15
  | 16 => RX16
  | 17 => RJ3
  | _ => RJ15
def cT : Nat → u_T := fun c => match c with
  | 0 => TX0
  | 1 => TX1
  | 2 => TX2
  | 3 => TX3
  | 4 => TX4
  | 5 => TX5
  | 6 => TX6
  | 7 => TX7
  | 8 => TX8
  | 9 => TX9
  | 10 => TX10
  | 11 => TX11
  | 12 => TX12
  | 13 => TX13
  | 14 => TX14
  | 15 => TX15
  | 16 => TX16
  | 17 => TJ3
  | _ => TJ15
def cTy : Nat → Nat → FieldType := fun c => match c with
  | 0 => tyX0
  | 1 => tyX1
  | 2 => tyX2
  | 3 => tyX3
  | 4 => tyX4
  | 5 => tyX5
  | 6 => tyX6
  | 7 => tyX7
  | 8 => tyX8
  | 9 => tyX9
  | 10 => tyX10
  | 11 => tyX11
  | 12 => tyX12
  | 13 => tyX13
  | 14 => tyX14
  | 15 => tyX15
  | 16 => tyX16
  | 17 => tyJ3
  | _ => tyJ15
def cN : Nat → Nat := fun c => match c with
  | 0 => 11
  | 1 => 11
  | 2 => 28
  | 3 => 8
  | 4 => 3
  | 5 => 2
  | 6 => 3
  | 7 => 1
  | 8 => 1
  | 9 => 3
  | 10 => 2
  | 11 => 3
  | 12 => 1
  | 13 => 1
  | 14 => 1
  | 15 => 1
  | 16 => 4
  | 17 => 3
  | _ => 1
theorem cls_in : ∀ c, c < 18 → ∀ w ∈ u_ws (cR c) (cT c) (cN c), w ∈ lw_all
  | 0, _ => in_X0
  | 1, _ => in_X1
  | 2, _ => in_X2
  | 3, _ => in_X3
  | 4, _ => in_X4
  | 5, _ => in_X5
  | 6, _ => in_X6
  | 7, _ => in_X7
  | 8, _ => in_X8
  | 9, _ => in_X9
  | 10, _ => in_X10
  | 11, _ => in_X11
  | 12, _ => in_X12
  | 13, _ => in_X13
  | 14, _ => in_X14
  | 15, _ => in_X15
  | 16, _ => in_X16
  | 17, _ => in_J3
  | _ + 18, h => absurd h (by omega)
theorem cls_ty : ∀ c, c < 18 → ∀ k, k < cN c → parseFieldDescriptor (cT c k).2.2.1 = some (cTy c k)
  | 0, _ => tyX0_ok
  | 1, _ => tyX1_ok
  | 2, _ => tyX2_ok
  | 3, _ => tyX3_ok
  | 4, _ => tyX4_ok
  | 5, _ => tyX5_ok
  | 6, _ => tyX6_ok
  | 7, _ => tyX7_ok
  | 8, _ => tyX8_ok
  | 9, _ => tyX9_ok
  | 10, _ => tyX10_ok
  | 11, _ => tyX11_ok
  | 12, _ => tyX12_ok
  | 13, _ => tyX13_ok
  | 14, _ => tyX14_ok
  | 15, _ => tyX15_ok
  | 16, _ => tyX16_ok
  | 17, _ => tyJ3_ok
  | _ + 18, h => absurd h (by omega)
theorem cls_nm : ∀ c, c < 18 → ∀ a, a < cN c → ∀ b, b < cN c → a ≠ b → (cT c a).2.1 ≠ (cT c b).2.1
  | 0, _ => nmX0
  | 1, _ => nmX1
  | 2, _ => nmX2
  | 3, _ => nmX3
  | 4, _ => nmX4
  | 5, _ => nmX5
  | 6, _ => nmX6
  | 7, _ => nmX7
  | 8, _ => nmX8
  | 9, _ => nmX9
  | 10, _ => nmX10
  | 11, _ => nmX11
  | 12, _ => nmX12
  | 13, _ => nmX13
  | 14, _ => nmX14
  | 15, _ => nmX15
  | 16, _ => nmX16
  | 17, _ => nmJ3
  | _ + 18, h => absurd h (by omega)
/-- 0: a whole number, 1: a long, 2: a reference -/
def tc (t : FieldType) : Nat := match t with
  | .long => 1
  | .object _ => 2
  | .array _ => 2
  | _ => 0
def ft (c k : Nat) : Nat := tc (cTy c k)
def fv (t : Nat) (m : Mem) (a k : Nat) : Value := match t with
  | 0 => .int (mI m a k)
  | 1 => .long (mL m a k)
  | _ => va_rf (mP m a k)
/-- kinds of arrays: 1 ints, 2 bytes, 3 booleans, 4 longs, 5 int arrays, 6 Texts, 7 Sums, 8 Objects, 9 Strings; objects of class c: 10 + c -/
def aty (κ : Nat) : FieldType := match κ with
  | 1 => .int
  | 2 => .byte
  | 3 => .boolean
  | 4 => .long
  | 5 => .array .int
  | 6 => .object "DawnPerquisite$Text"
  | 7 => .object "DawnPerquisite$Sum"
  | 8 => .object "java/lang/Object"
  | _ => .object "java/lang/String"
def aq (κ : Nat) : Nat := tc (aty κ)
def av (m : Mem) (a : Nat) : Nat → Value := fun j => fv (aq (mK m a).1) m a j
def ov (m : Mem) (a : Nat) : Nat → Value := fun k => fv (ft ((mK m a).1 - 10) k) m a k
def Cel (D : va_G) (dA : Nat → ClassId) (m : Mem) (a : Nat) (H : Heap) : Prop :=
  ((mK m a).1 < 10 → H[a]? = some (arrV (dA (mK m a).1) (mK m a).2 (av m a))) ∧
  (10 ≤ (mK m a).1 → t_OB a (D.1 ((mK m a).1 - 10)) (cN ((mK m a).1 - 10)) (D.2 ((mK m a).1 - 10)) H (ov m a))
def Rw (D : va_G) (dA : Nat → ClassId) (m : Mem) (H : Heap) : Prop :=
  H.size = mN m ∧ mB m ≤ mN m ∧ (∀ a, mN m ≤ a → (mK m a).1 = 0) ∧ ∀ a, mB m ≤ a → a < mN m → 1 ≤ (mK m a).1 ∧ (mK m a).1 < 28 ∧ Cel D dA m a H
abbrev hi (m : Mem) : Nat → Prop := fun q => mB m ≤ q
def Ro (m : Mem) (U : State) (H : Heap) : Prop := ∀ a, a < mB m → 1 ≤ (mK m a).1 →
  ((mK m a).1 < 10 → va_T (aty (mK m a).1) a (mK m a).2 (av m a) (hi m) U H) ∧
  (10 ≤ (mK m a).1 → (mK m a).1 < 29 → va_O (cR ((mK m a).1 - 10)) a (hi m) U H ∧ ∀ k, k < cN ((mK m a).1 - 10) → va_OF (cT ((mK m a).1 - 10) k).1 (cT ((mK m a).1 - 10) k).2.1 (cT ((mK m a).1 - 10) k).2.2.1 (ov m a k) a (hi m) U H)
/-- what is known of the classes -/
def KN (D : va_G) (dA : Nat → ClassId) (s : State) : Prop :=
  (∀ c, c < 18 → u_Kn s (cR c) (cT c) (cN c) (D.1 c) (D.2 c)) ∧ ∀ κ, 1 ≤ κ → κ < 10 → ArrOfT s (dA κ) (aty κ) ∧ va_RA s (dA κ) (aty κ)
theorem KN.moved {D : va_G} {dA : Nat → ClassId} {u U : State} (hvm : u.vm.Alike U.vm) (h : KN D dA u) : KN D dA U :=
  ⟨fun c hc => u_Kn_moved hvm (h.1 c hc), fun κ h1 h2 => ⟨arrOfT_moved hvm (h.2 κ h1 h2).1, (h.2 κ h1 h2).2.moved hvm⟩⟩
/-- the statics, by number -/
def stc (j : Nat) : String × String × String := match j with
  | 0 => ("DawnPerquisite", "NOTHING", "LDawnPerquisite$Text;")
  | 1 => ("DawnPerquisite$Tokens", "WORDS", "[Ljava/lang/String;")
  | 2 => ("DawnPerquisite$Tokens", "NAMED", "[I")
  | _ => ("java/util/ArrayList", "DEFAULTCAPACITY_EMPTY_ELEMENTDATA", "[Ljava/lang/Object;")
def Sta (m : Mem) (U : State) (H : Heap) : Prop := ∀ j, j < 4 → va_Z (stc j).1 (stc j).2.1 (stc j).2.2 (mT m j) (hi m) U H
def Rep (D : va_G) (dA : Nat → ClassId) (m : Mem) (U : State) (H : Heap) : Prop := Rw D dA m H ∧ Ro m U H ∧ Sta m U H
theorem Ro.kept {m : Mem} {U : State} {H H1 : Heap} (h : Ro m U H) (hq : ∀ a : Nat, a < H.size → ¬ hi m a → H1[a]? = H[a]?) : Ro m U H1 := fun a ha hk =>
  ⟨fun h1 => ((h a ha hk).1 h1).kept hq, fun h1 h2 => ⟨((h a ha hk).2 h1 h2).1.kept hq, fun k hk2 => (((h a ha hk).2 h1 h2).2 k hk2).kept hq⟩⟩
theorem Ro.moved {m : Mem} {u U : State} {H : Heap} (hvm : u.vm.Alike U.vm) (h : Ro m u H) : Ro m U H := fun a ha hk =>
  ⟨fun h1 => ((h a ha hk).1 h1).moved hvm, fun h1 h2 => ⟨((h a ha hk).2 h1 h2).1.moved hvm, fun k hk2 => (((h a ha hk).2 h1 h2).2 k hk2).moved hvm⟩⟩
theorem Sta.kept {m : Mem} {U : State} {H H1 : Heap} (h : Sta m U H) (hq : ∀ a : Nat, a < H.size → ¬ hi m a → H1[a]? = H[a]?) : Sta m U H1 := fun j hj => (h j hj).kept hq
theorem Sta.moved {m : Mem} {u U : State} {H : Heap} (hvm : u.vm.Alike U.vm) (h : Sta m u H) : Sta m U H := fun j hj => (h j hj).moved hvm
theorem Rep.moved {D : va_G} {dA : Nat → ClassId} {m : Mem} {u U : State} {H : Heap} (hvm : u.vm.Alike U.vm) (h : Rep D dA m u H) : Rep D dA m U H := ⟨h.1, h.2.1.moved hvm, h.2.2.moved hvm⟩
/-- the old part of the memory is the same -/
def olds (m m' : Mem) : Prop := mB m' = mB m ∧ mT m' = mT m ∧ ∀ a, a < mB m → mK m' a = mK m a ∧ mI m' a = mI m a ∧ mL m' a = mL m a ∧ mP m' a = mP m a
theorem fv_eq {m m' : Mem} {a : Nat} (hI : mI m' a = mI m a) (hL : mL m' a = mL m a) (hP : mP m' a = mP m a) (t k : Nat) : fv t m' a k = fv t m a k := by
  unfold fv; rw [hI, hL, hP]
theorem Ro.old {m m' : Mem} {U : State} {H : Heap} (h : Ro m U H) (ho : olds m m') : Ro m' U H := by
  obtain ⟨h1, h2, h3⟩ := ho
  intro a ha hk
  rw [h1] at ha
  obtain ⟨e1, e2, e3, e4⟩ := h3 a ha
  have ea : av m' a = av m a := by unfold av; rw [e1]; funext j; exact fv_eq e2 e3 e4 _ _
  have eo : ov m' a = ov m a := by unfold ov; rw [e1]; funext j; exact fv_eq e2 e3 e4 _ _
  have eh : hi m' = hi m := by unfold hi; rw [h1]
  rw [ea, eo, eh, e1]
  rw [e1] at hk
  exact h a ha hk
theorem Sta.old {m m' : Mem} {U : State} {H : Heap} (h : Sta m U H) (ho : olds m m') : Sta m' U H := by
  intro j hj
  rw [ho.2.1, show hi m' = hi m from by unfold hi; rw [ho.1]]
  exact h j hj
/-- one cell is written -/
theorem Rep.put {D : va_G} {dA : Nat → ClassId} {m m' : Mem} {U : State} {H H1 : Heap} {a : Nat} (h : Rep D dA m U H) (ha : mB m ≤ a) (hsz : H1.size = H.size) (hq : ∀ q : Nat, q ≠ a → H1[q]? = H[q]?)
    (h1 : m'.1 = m.1) (h2 : mT m' = mT m) (h3 : mK m' = mK m) (h4 : ∀ b, b ≠ a → mI m' b = mI m b ∧ mL m' b = mL m b ∧ mP m' b = mP m b) (hc : a < mN m → Cel D dA m' a H1) : Rep D dA m' U H1 := by
  obtain ⟨⟨w1, w2, w3, w4⟩, hr, hs⟩ := h
  have eB : mB m' = mB m := by unfold mB; rw [h1]
  have eN : mN m' = mN m := by unfold mN; rw [h1]
  have ho : olds m m' := ⟨eB, h2, fun b hb => ⟨by rw [h3], h4 b (by omega)⟩⟩
  have hkeep : ∀ q : Nat, q < H.size → ¬ hi m q → H1[q]? = H[q]? := fun q _ hn => hq q (fun e => hn (by rw [e]; exact ha))
  refine ⟨⟨by rw [hsz, w1, eN], by rw [eB, eN]; exact w2, by rw [eN, h3]; exact w3, fun b hb hbn => ?_⟩, (hr.kept hkeep).old ho, (hs.kept hkeep).old ho⟩
  rw [eB] at hb
  rw [eN] at hbn
  obtain ⟨k1, k2, k3⟩ := w4 b hb hbn
  rw [h3]
  refine ⟨k1, k2, ?_⟩
  by_cases e : b = a
  · subst e
    exact hc hbn
  · obtain ⟨e2, e3, e4⟩ := h4 b e
    have ea : av m' b = av m b := by unfold av; rw [h3]; funext j; exact fv_eq e2 e3 e4 _ _
    have eo : ov m' b = ov m b := by unfold ov; rw [h3]; funext j; exact fv_eq e2 e3 e4 _ _
    unfold Cel
    rw [h3, ea, eo]
    exact ⟨fun z => by rw [hq b e]; exact k3.1 z, fun z => (k3.2 z).kept (hq b e)⟩
/-- a cell is made -/
theorem Rep.new {D : va_G} {dA : Nat → ClassId} {m : Mem} {U : State} {H H1 : Heap} {κ n : Nat} (h : Rep D dA m U H) (hsz : H1.size = H.size + 1) (hq : ∀ q : Nat, q < H.size → H1[q]? = H[q]?) (hk : 1 ≤ κ) (hk2 : κ < 28) (hc : Cel D dA (mNew m κ n) (mN m) H1) : Rep D dA (mNew m κ n) U H1 := by
  obtain ⟨⟨w1, w2, w3, w4⟩, hr, hs⟩ := h
  have ho : olds m (mNew m κ n) := ⟨rfl, rfl, fun b hb => by
    have hne : b ≠ mN m := by omega
    rw [mK_new, mI_new, mL_new, mP_new, if_neg hne, if_neg hne, if_neg hne, if_neg hne]
    exact ⟨rfl, rfl, rfl, rfl⟩⟩
  refine ⟨⟨by rw [hsz, w1, mN_new], by rw [mB_new, mN_new]; omega, fun b hb => ?_, fun b hb hbn => ?_⟩, (hr.kept (fun q h1 _ => hq q h1)).old ho, (hs.kept (fun q h1 _ => hq q h1)).old ho⟩
  · rw [mN_new] at hb
    rw [mK_new, if_neg (by omega)]
    exact w3 b (by omega)
  · rw [mN_new] at hbn
    by_cases e : b = mN m
    · subst e
      refine ⟨?_, ?_, hc⟩
      · rw [mK_new, if_pos rfl]; exact hk
      · rw [mK_new, if_pos rfl]; exact hk2
    · obtain ⟨k1, k2, k3⟩ := w4 b hb (by omega)
      have eK : mK (mNew m κ n) b = mK m b := by rw [mK_new, if_neg e]
      have e2 : mI (mNew m κ n) b = mI m b := by rw [mI_new, if_neg e]
      have e3 : mL (mNew m κ n) b = mL m b := by rw [mL_new, if_neg e]
      have e4 : mP (mNew m κ n) b = mP m b := by rw [mP_new, if_neg e]
      have ea : av (mNew m κ n) b = av m b := by unfold av; rw [eK]; funext j; exact fv_eq e2 e3 e4 _ _
      have eo : ov (mNew m κ n) b = ov m b := by unfold ov; rw [eK]; funext j; exact fv_eq e2 e3 e4 _ _
      unfold Cel
      rw [eK, ea, eo]
      have hqb := hq b (by rw [w1]; omega)
      exact ⟨k1, k2, fun z => by rw [hqb]; exact k3.1 z, fun z => (k3.2 z).kept hqb⟩
theorem Rw.lt {D : va_G} {dA : Nat → ClassId} {m : Mem} {H : Heap} (h : Rw D dA m H) {a : Nat} (hk : 1 ≤ (mK m a).1) : a < mN m := by
  rcases Nat.lt_or_ge a (mN m) with q | q
  · exact q
  · have := h.2.2.1 a q; omega
/-- an array, wherever it lies -/
theorem Rep.arr {D : va_G} {dA : Nat → ClassId} {m : Mem} {s : State} {H : Heap} (hK : KN D dA s) (h : Rep D dA m s H) {a : Nat} (hk : 1 ≤ (mK m a).1) (hk2 : (mK m a).1 < 10) :
    ∃ cell : Cell, H[a]? = some cell ∧ s.isArrayOf cell (aty (mK m a).1) ∧ cell.vm ≠ .unknown ∧ (mK m a).2 ≤ cell.slots.size ∧ cell.slots.size.toInt32 = Int32.ofNat (mK m a).2 ∧ ∀ j : Nat, j < (mK m a).2 → cell.slots[j]? = some (av m a j) := by
  have hlt := h.1.lt hk
  rcases Nat.lt_or_ge a (mB m) with hb | hb
  · obtain ⟨cell, g1, g2, g3, g4, g5, g6, -⟩ := (h.2.1 a hb hk).1 hk2
    exact ⟨cell, g1, g2, g3, g4, g5, g6⟩
  · have hc := (h.1.2.2.2 a hb hlt).2.2.1 hk2
    refine ⟨_, hc, (hK.2 _ hk hk2).1 _ _, (fun q => by cases q), by rw [arrV_size]; exact Nat.le_refl _, by rw [arrV_size]; rfl, fun j hj => arrV_read _ _ hj⟩
/-- an object's field, wherever it lies -/
theorem Rep.obj {D : va_G} {dA : Nat → ClassId} {m : Mem} {s : State} {H : Heap} {args : Array Value} (hts : ∀ w ∈ lw_all, w.before args s = true) (hK : KN D dA s) (h : Rep D dA m s H) {a c k : Nat} (hc : c < 18) (hk : (mK m a).1 = 10 + c) (hkc : k < cN c) :
    ∃ (cell : Cell) (cf : ClassId) (kf : Class) (fi : Nat) (f : Field), H[a]? = some cell ∧ cell.vm ≠ .unknown ∧ s.fieldFound? (cT c k).1 (cT c k).2.1 (cT c k).2.2.1 = some (cf, kf, fi, f) ∧ f.isStatic = false ∧ cell.slots[f.slot]? = some (fv (ft c k) m a k) := by
  have hlt := h.1.lt (a := a) (by omega)
  have eo : ov m a k = fv (ft c k) m a k := by unfold ov; rw [hk, Nat.add_sub_cancel_left]
  rcases Nat.lt_or_ge a (mB m) with hb | hb
  · have h2 := ((h.2.1 a hb (by omega)).2 (by omega) (by omega)).2 k
    rw [hk, Nat.add_sub_cancel_left] at h2
    obtain ⟨cf, kf, fi, f, cell, g1, g2, g3, g4, g5, -⟩ := h2 hkc
    rw [eo] at g5
    exact ⟨cell, cf, kf, fi, f, g3, g4, g1, g2, g5⟩
  · have h2 := (h.1.2.2.2 a hb hlt).2.2.2 (by omega)
    rw [hk, Nat.add_sub_cancel_left] at h2
    obtain ⟨cell, q1, q2, q3, q4⟩ := h2
    obtain ⟨hS, hfc, kC, hkC, hkind⟩ := hK.1 c hc
    obtain ⟨cf, kf, fi, f, hi, hsl⟩ := hS k hkc
    refine ⟨cell, cf, kf, fi, f, q1, by rw [q3]; exact fun z => by cases z, hi, (u_facts hfc hkC (u_lays hts (cls_in c hc) hkc) hi).1, ?_⟩
    rw [hsl, q4 k hkc, eo]
/-- an object, as a receiver -/
theorem Rep.recv {D : va_G} {dA : Nat → ClassId} {m : Mem} {s : State} {H : Heap} (hK : KN D dA s) (h : Rep D dA m s H) {a c : Nat} (hc : c < 18) (hk : (mK m a).1 = 10 + c) : ∃ cell : Cell, H[a]? = some cell ∧ cell.vm.isStatics = false ∧ s.vm.findClass (cR c) = some cell.cls := by
  have hlt := h.1.lt (a := a) (by omega)
  rcases Nat.lt_or_ge a (mB m) with hb | hb
  · have h2 := ((h.2.1 a hb (by omega)).2 (by omega) (by omega)).1
    rw [hk, Nat.add_sub_cancel_left] at h2
    obtain ⟨cell, g1, g2, g3, -⟩ := h2
    exact ⟨cell, g1, g2, g3⟩
  · have h2 := (h.1.2.2.2 a hb hlt).2.2.2 (by omega)
    rw [hk, Nat.add_sub_cancel_left] at h2
    obtain ⟨cell, q1, q2, q3, q4⟩ := h2
    exact ⟨cell, q1, by rw [q3]; rfl, by rw [q2]; exact (hK.1 c hc).2.1⟩
