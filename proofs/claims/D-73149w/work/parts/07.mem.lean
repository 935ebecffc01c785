/-! PART 07: fields, arrays, new cells: steps and why they hold -/
set_option maxRecDepth 100000
/-- what may be put into a field: a boolean's is 0 or 1 -/
def pfit (t : FieldType) (v : Value) : Bool := match t, v with
  | .int, .int _ => true
  | .boolean, .int x => x == 0 || x == 1
  | .long, .long _ => true
  | .object _, .ref _ => true
  | .object _, .null => true
  | .array _, .ref _ => true
  | .array _, .null => true
  | _, _ => false
def pw (m : Mem) (a k : Nat) (v : Value) : Mem := match v with
  | .int x => wI m a (up (mI m a) k x)
  | .long x => wL m a (up (mL m a) k x)
  | .ref x => wP m a (up (mP m a) k (some x))
  | _ => wP m a (up (mP m a) k none)
def inb (i : Int32) (n : Nat) : Bool := !(decide (i < 0) || decide (n ≤ i.toNatClampNeg))
theorem inb_ok {i : Int32} {n : Nat} (h : inb i n = true) : vp_in i n := by
  unfold inb at h
  unfold vp_in
  simpa using h
/-- reading fields and arrays -/
def gF (cm : Nat) (i : Instr) (pc : Nat) (ls st : List Value) (m : Mem) : Option Nx := match i with
  | .getfield ix => match fr cm ix with
    | some (c, k) => pA st fun a r => if (mK m a).1 = 10 + c then oN (pc + 3) ls (fv (ft c k) m a k :: r) m else none
    | none => none
  | .arraylength => pA st fun a r => if 1 ≤ (mK m a).1 ∧ (mK m a).1 < 10 then oN (pc + 1) ls (.int (Int32.ofNat (mK m a).2) :: r) m else none
  | .iaload => pI st fun i r => pA r fun a r => if (mK m a).1 = 1 then if inb i (mK m a).2 = true then oN (pc + 1) ls (.int (mI m a i.toNatClampNeg) :: r) m else none else none
  | .baload => pI st fun i r => pA r fun a r => if (mK m a).1 = 2 ∨ (mK m a).1 = 3 then if inb i (mK m a).2 = true then oN (pc + 1) ls (.int (mI m a i.toNatClampNeg) :: r) m else none else none
  | .laload => pI st fun i r => pA r fun a r => if (mK m a).1 = 4 then if inb i (mK m a).2 = true then oN (pc + 1) ls (.long (mL m a i.toNatClampNeg) :: r) m else none else none
  | .aaload => pI st fun i r => pA r fun a r => if 5 ≤ (mK m a).1 ∧ (mK m a).1 < 10 then if inb i (mK m a).2 = true then oN (pc + 1) ls (va_rf (mP m a i.toNatClampNeg) :: r) m else none else none
  | _ => none
/-- writing fields and arrays of this run's own -/
def gG (cm : Nat) (ini : Bool) (i : Instr) (pc : Nat) (ls st : List Value) (m : Mem) : Option Nx := match i with
  | .putfield ix => match fr cm ix with
    | some (c, k) => match st with
      | v :: .ref a :: r => if (mK m a).1 = 10 + c ∧ mB m ≤ a ∧ pfit (cTy c k) v = true ∧ ((cT c k).2.2.2 = true → ini = true ∧ (cT c k).1 = cnm cm ∧ mP m a k = none) then oN (pc + 3) ls r (pw m a k v) else none
      | _ => none
    | none => none
  | .iastore => pI st fun x r => pI r fun i r => pA r fun a r => if (mK m a).1 = 1 ∧ mB m ≤ a then if inb i (mK m a).2 = true then oN (pc + 1) ls r (wI m a (up (mI m a) i.toNatClampNeg x)) else none else none
  | .bastore => pI st fun x r => pI r fun i r => pA r fun a r => if (mK m a).1 = 2 ∧ mB m ≤ a then if inb i (mK m a).2 = true then oN (pc + 1) ls r (wI m a (up (mI m a) i.toNatClampNeg (vp_nar .byte x))) else none else
      if (mK m a).1 = 3 ∧ mB m ≤ a then if inb i (mK m a).2 = true then oN (pc + 1) ls r (wI m a (up (mI m a) i.toNatClampNeg (vp_nar .boolean x))) else none else none
  | .lastore => pL st fun x r => pI r fun i r => pA r fun a r => if (mK m a).1 = 4 ∧ mB m ≤ a then if inb i (mK m a).2 = true then oN (pc + 1) ls r (wL m a (up (mL m a) i.toNatClampNeg x)) else none else none
  | _ => none
theorem fieldType_eq {c k : Nat} (hc : c < 18) (hk : k < cN c) : parseFieldDescriptor (cT c k).2.2.1 = some (cTy c k) := cls_ty c hc k hk
theorem pfit_nar {t : FieldType} {v : Value} (h : pfit t v = true) : narrow t v = v ∧ fits t v = true := by
  unfold pfit at h
  (try dsimp only at h); split at h
  · exact ⟨rfl, rfl⟩
  · next x =>
    simp only [Bool.or_eq_true, beq_iff_eq] at h
    rcases h with rfl | rfl <;> exact ⟨rfl, rfl⟩
  · exact ⟨rfl, rfl⟩
  · exact ⟨rfl, rfl⟩
  · exact ⟨rfl, rfl⟩
  · exact ⟨rfl, rfl⟩
  · exact ⟨rfl, rfl⟩
  · cases h
/-- what a field holds behind a write -/
theorem fv_pw {t : FieldType} {v : Value} (h : pfit t v = true) (m : Mem) (a k : Nat) : fv (tc t) (pw m a k v) a k = v := by
  unfold pfit at h
  (try dsimp only at h); split at h
  · simp [tc, fv, pw, mI_wIs, up_s]
  · simp [tc, fv, pw, mI_wIs, up_s]
  · simp [tc, fv, pw, mL_wLs, up_s]
  · simp [tc, fv, pw, mP_wPs, up_s, va_rf]
  · simp [tc, fv, pw, mP_wPs, up_s, va_rf]
  · simp [tc, fv, pw, mP_wPs, up_s, va_rf]
  · simp [tc, fv, pw, mP_wPs, up_s, va_rf]
  · cases h
theorem fv_pw_ne {v : Value} (m : Mem) (a : Nat) {k j : Nat} (hj : j ≠ k) (t : Nat) : fv t (pw m a k v) a j = fv t m a j := by
  unfold pw
  cases v <;> (unfold fv; split <;> simp [mI_wIs, mL_wLs, mP_wPs, mI_wL, mI_wP, mL_wI, mL_wP, mP_wI, mP_wL, up_n hj])
theorem pw_1 (m : Mem) (a k : Nat) (v : Value) : (pw m a k v).1 = m.1 ∧ mT (pw m a k v) = mT m ∧ mK (pw m a k v) = mK m := by unfold pw; cases v <;> exact ⟨rfl, rfl, rfl⟩
theorem pw_ne (m : Mem) (a k : Nat) (v : Value) (b : Nat) (hb : b ≠ a) : mI (pw m a k v) b = mI m b ∧ mL (pw m a k v) b = mL m b ∧ mP (pw m a k v) b = mP m b := by
  unfold pw
  cases v <;> simp [mI_wI, mL_wL, mP_wP, mI_wL, mI_wP, mL_wI, mL_wP, mP_wI, mP_wL, hb]
section SndF
variable {p : Program} {l : Launch} {e : Env} {R : Room} {s : State} {mt : MethodId} {args : Array Value} {below : List Frame} {meth : Method} {c : Code} {Q : State → Prop} {cc : ByteArray} {D : va_G} {dA : Nat → ClassId} {n0 s0 nL pc pc' cm : Nat} {ls st ls' st' : List Value} {m m' : Mem} {i : Instr} {ini : Bool}
abbrev EE (D : va_G) (dA : Nat → ClassId) (s : State) : Mem → Heap → Prop := fun m H => Rep D dA m s H
theorem FOK.same {cm ix c k : Nat} {ref : String} (hts : ∀ w ∈ lw_all, w.before args s = true) (h : ref = (cT c k).1 ∨ Cond.sameField ref (cT c k).1 (cT c k).2.1 (cT c k).2.2.1 ∈ lw_all) : ∀ x, s.fieldFound? (cT c k).1 (cT c k).2.1 (cT c k).2.2.1 = some x → s.fieldFound? ref (cT c k).2.1 (cT c k).2.2.1 = some x := by
  intro x hx
  rcases h with rfl | h
  · exact hx
  · exact u_same (hts _ h) x hx
set_option maxHeartbeats 2000000 in
theorem gF_ok (hx : p.tables.exec = Jvm.exec) (hb : c.code = cc) (hts : ∀ w ∈ lw_all, w.before args s = true) (hK : KN D dA s) (hNF : NF s) (hown : s.vm.findClass (cnm cm) = some mt.cls) (hd : decode cc pc = .ok (i, iln i)) (h : gF cm i pc ls st m = some (pc', ls', st', m'))
    (k : WP p l e R s mt args below meth c Q (EE D dA s) n0 s0 nL pc' ls' st' m') : WP p l e R s mt args below meth c Q (EE D dA s) n0 s0 nL pc ls st m := by
  unfold gF at h
  (try dsimp only at h); split at h
  · split at h
    next ix c0 k0 hfr =>
      (try unfold pA at h); (try dsimp only at h); split at h
      next a r =>
        (try dsimp only at h); split at h
        next hk =>
          cases h
          obtain ⟨hc, hk0, ref, hlink, hsame⟩ := fr_ok hfr
          intro H locs la hE hS hl
          obtain ⟨cell, cf, kf, fi, f, q1, q2, q3, q4, q5⟩ := Rep.obj hts hK hE hc hk hk0
          rcases hlink with hl1 | ⟨host, hl1⟩
          · exact W.getf hx hb hown (hts _ hl1) (FOK.same hts hsame _ q3) q4 q1 q2 q5 rfl rfl hd (k H locs la hE hS hl)
          · exact va_Wgetf hx hb hown (va_Nw.use rfl (hNF _ hl1)) (FOK.same hts hsame _ q3) q4 q1 q2 q5 rfl rfl hd (k H locs la hE hS hl)
        next => cases h
      next => cases h
    next => cases h
  · (try unfold pA at h); (try dsimp only at h); split at h
    next a r =>
      (try dsimp only at h); split at h
      next hk =>
        cases h
        intro H locs la hE hS hl
        obtain ⟨cell, q1, q2, q3, q4, q5, q6⟩ := Rep.arr hK hE hk.1 hk.2
        exact W.alen hx hb q1 q2 q5 rfl rfl hd (k H locs la hE hS hl)
      next => cases h
    next => cases h
  · unfold pI at h; split at h
    next ii r =>
      (try unfold pA at h); (try dsimp only at h); split at h
      next a r =>
        (try dsimp only at h); split at h
        next hk =>
          (try dsimp only at h); split at h
          next hin =>
            cases h
            intro H locs la hE hS hl
            obtain ⟨cell, q1, q2, q3, q4, q5, q6⟩ := Rep.arr hK hE (a := a) (by omega) (by omega)
            rw [hk] at q2
            have hi := inb_ok hin
            have hlt := Nat.not_le.mp fun q => hi (Or.inr q)
            exact W.iald hx hb q1 q2 q3 (fun q => hi (q.imp id (fun z => Nat.le_trans q4 z))) (q6 _ hlt) rfl rfl hd (by
              have e : av m a ii.toNatClampNeg = .int (mI m a ii.toNatClampNeg) := by unfold av; rw [hk]; rfl
              rw [e]; exact k H locs la hE hS hl)
          next => cases h
        next => cases h
      next => cases h
    next => cases h
  · unfold pI at h; split at h
    next ii r =>
      (try unfold pA at h); (try dsimp only at h); split at h
      next a r =>
        (try dsimp only at h); split at h
        next hk =>
          (try dsimp only at h); split at h
          next hin =>
            cases h
            intro H locs la hE hS hl
            obtain ⟨cell, q1, q2, q3, q4, q5, q6⟩ := Rep.arr hK hE (a := a) (by omega) (by omega)
            have hi := inb_ok hin
            have hlt := Nat.not_le.mp fun q => hi (Or.inr q)
            have e : av m a ii.toNatClampNeg = .int (mI m a ii.toNatClampNeg) := by unfold av; rcases hk with hk | hk <;> (rw [hk]; rfl)
            have q7 := q6 _ hlt
            rw [e] at q7
            rcases hk with hk | hk
            · rw [hk] at q2
              exact W.bald hx hb q1 q2 q3 (fun q => hi (q.imp id (fun z => Nat.le_trans q4 z))) q7 rfl rfl hd (k H locs la hE hS hl)
            · rw [hk] at q2
              exact W.zald hx hb q1 q2 q3 (fun q => hi (q.imp id (fun z => Nat.le_trans q4 z))) q7 rfl rfl hd (k H locs la hE hS hl)
          next => cases h
        next => cases h
      next => cases h
    next => cases h
  · unfold pI at h; split at h
    next ii r =>
      (try unfold pA at h); (try dsimp only at h); split at h
      next a r =>
        (try dsimp only at h); split at h
        next hk =>
          (try dsimp only at h); split at h
          next hin =>
            cases h
            intro H locs la hE hS hl
            obtain ⟨cell, q1, q2, q3, q4, q5, q6⟩ := Rep.arr hK hE (a := a) (by omega) (by omega)
            rw [hk] at q2
            have hi := inb_ok hin
            have hlt := Nat.not_le.mp fun q => hi (Or.inr q)
            have e : av m a ii.toNatClampNeg = .long (mL m a ii.toNatClampNeg) := by unfold av; rw [hk]; rfl
            have q7 := q6 _ hlt
            rw [e] at q7
            exact W.lald hx hb q1 q2 q3 (fun q => hi (q.imp id (fun z => Nat.le_trans q4 z))) q7 rfl rfl hd (k H locs la hE hS hl)
          next => cases h
        next => cases h
      next => cases h
    next => cases h
  · unfold pI at h; split at h
    next ii r =>
      (try unfold pA at h); (try dsimp only at h); split at h
      next a r =>
        (try dsimp only at h); split at h
        next hk =>
          (try dsimp only at h); split at h
          next hin =>
            cases h
            intro H locs la hE hS hl
            obtain ⟨cell, q1, q2, q3, q4, q5, q6⟩ := Rep.arr hK hE (a := a) (by omega) (by omega)
            have hi := inb_ok hin
            have hlt := Nat.not_le.mp fun q => hi (Or.inr q)
            have hr : (aty (mK m a).1).isReference = true ∧ av m a ii.toNatClampNeg = va_rf (mP m a ii.toNatClampNeg) := by
              unfold av
              obtain ⟨h5, h10⟩ := hk
              rcases (by omega : (mK m a).1 = 5 ∨ (mK m a).1 = 6 ∨ (mK m a).1 = 7 ∨ (mK m a).1 = 8 ∨ (mK m a).1 = 9) with z | z | z | z | z <;> (rw [z]; exact ⟨rfl, rfl⟩)
            have q7 := q6 _ hlt
            rw [hr.2] at q7
            exact W.aald hx hb q1 q2 hr.1 q3 (fun q => hi (q.imp id (fun z => Nat.le_trans q4 z))) q7 rfl rfl hd (k H locs la hE hS hl)
          next => cases h
        next => cases h
      next => cases h
    next => cases h
  · cases h
/-- an own array's cell -/
theorem Rep.own {H : Heap} (hK : KN D dA s) (h : Rep D dA m s H) {a : Nat} (hk : 1 ≤ (mK m a).1) (hk2 : (mK m a).1 < 10) (ha : mB m ≤ a) : H[a]? = some (arrV (dA (mK m a).1) (mK m a).2 (av m a)) ∧ s.isArrayOf (arrV (dA (mK m a).1) (mK m a).2 (av m a)) (aty (mK m a).1) :=
  ⟨(h.1.2.2.2 a ha (h.1.lt hk)).2.2.1 hk2, (hK.2 _ hk hk2).1 _ _⟩
/-- one place of an own array is written -/
theorem Rep.putA {H H1 : Heap} {a k : Nat} {v : Value} (h : Rep D dA m s H) (ha : mB m ≤ a) (hk2 : (mK m a).1 < 10) (e1 : H1[a]? = some ((arrV (dA (mK m a).1) (mK m a).2 (av m a)).setSlot k v)) (e2 : H1.size = H.size) (e3 : ∀ q : Nat, q ≠ a → H1[q]? = H[q]?)
    (hv : fv (aq (mK m a).1) (pw m a k v) a k = v) : Rep D dA (pw m a k v) s H1 := by
  obtain ⟨p1, p2, p3⟩ := pw_1 m a k v
  refine h.put ha e2 e3 p1 p2 p3 (pw_ne m a k v) fun _ => ⟨fun _ => ?_, fun z => absurd z (by rw [p3]; omega)⟩
  rw [e1, arrV_store, p3]
  congr 2
  funext j
  unfold updV
  by_cases hj : j = k
  · subst hj
    rw [if_pos rfl]
    show v = fv (aq (mK (pw m a j v) a).1) (pw m a j v) a j
    rw [p3]
    exact hv.symm
  · rw [if_neg hj]
    show fv (aq (mK m a).1) m a j = fv (aq (mK (pw m a k v) a).1) (pw m a k v) a j
    rw [p3, fv_pw_ne m a hj]
/-- a field of an own object is written -/
theorem Rep.putO {H H1 : Heap} {a k c0 : Nat} {v : Value} {cell : Cell} (hts : ∀ w ∈ lw_all, w.before args s = true) (hK : KN D dA s) (h : Rep D dA m s H) (ha : mB m ≤ a) (hk : (mK m a).1 = 10 + c0) (hc : c0 < 18) (hkc : k < cN c0) (hpf : pfit (cTy c0 k) v = true)
    (q0 : H[a]? = some cell) (q2 : cell.cls = D.1 c0) (q3 : cell.vm = .none) (q4 : ∀ j, j < cN c0 → cell.slots[D.2 c0 j]? = some (ov m a j)) (e1 : H1[a]? = some (cell.setSlot (D.2 c0 k) v)) (e2 : H1.size = H.size) (e3 : ∀ q : Nat, q ≠ a → H1[q]? = H[q]?) : Rep D dA (pw m a k v) s H1 := by
  obtain ⟨p1, p2, p3⟩ := pw_1 m a k v
  have hap : ∀ x y, x < cN c0 → y < cN c0 → x ≠ y → D.2 c0 x ≠ D.2 c0 y := by
    intro x y hx hy hne
    obtain ⟨hS, -⟩ := hK.1 c0 hc
    obtain ⟨_, _, _, fa, hia, ea⟩ := hS x hx
    obtain ⟨_, _, _, fb, hib, eb⟩ := hS y hy
    rw [← ea, ← eb]
    refine u_apart (u_lays hts (cls_in c0 hc) hx) (u_lays hts (cls_in c0 hc) hy) hia hib ?_
    rw [(State.fieldFound?_type hia (cls_ty c0 hc x hx)).1, (State.fieldFound?_type hib (cls_ty c0 hc y hy)).1]
    exact cls_nm c0 hc x hx y hy hne
  refine h.put ha e2 e3 p1 p2 p3 (pw_ne m a k v) fun _ => ⟨fun z => absurd z (by rw [p3]; omega), fun _ => ?_⟩
  rw [p3, hk, Nat.add_sub_cancel_left]
  refine t_OB.to (V := updV (ov m a) k v) ⟨_, e1, q2, q3, t_set q4 hap hkc v⟩ (fun j hj => ?_)
  unfold updV
  by_cases hjk : j = k
  · subst hjk
    rw [if_pos rfl]
    show v = fv (ft ((mK (pw m a j v) a).1 - 10) j) (pw m a j v) a j
    rw [p3, hk, Nat.add_sub_cancel_left]
    exact (fv_pw hpf m a j).symm
  · rw [if_neg hjk]
    show fv (ft ((mK m a).1 - 10) j) m a j = fv (ft ((mK (pw m a k v) a).1 - 10) j) (pw m a k v) a j
    rw [p3, fv_pw_ne m a hjk]
theorem mN_pw {a k : Nat} {v : Value} : mN (pw m a k v) = mN m := by unfold mN; rw [(pw_1 m a k v).1]
theorem mS_pw {a k : Nat} {v : Value} : mS (pw m a k v) = mS m := by unfold mS; rw [(pw_1 m a k v).1]
theorem mB_pw {a k : Nat} {v : Value} : mB (pw m a k v) = mB m := by unfold mB; rw [(pw_1 m a k v).1]
theorem vp_nar_b (x : Int32) : narrow .byte (.int x) = .int (vp_nar .byte x) := rfl
theorem vp_nar_z (x : Int32) : narrow .boolean (.int x) = .int (vp_nar .boolean x) := by
  unfold vp_nar
  cases h : narrow .boolean (.int x) with
  | int y => rfl
  | _ => simp [narrow] at h
set_option maxHeartbeats 4000000 in
theorem gG_ok (hx : p.tables.exec = Jvm.exec) (hb : c.code = cc) (hts : ∀ w ∈ lw_all, w.before args s = true) (hK : KN D dA s) (hNF : NF s) (hown : s.vm.findClass (cnm cm) = some mt.cls) (hini : ini = true → meth.name = "<init>") (hd : decode cc pc = .ok (i, iln i)) (h : gG cm ini i pc ls st m = some (pc', ls', st', m'))
    (k : WP p l e R s mt args below meth c Q (EE D dA s) n0 s0 nL pc' ls' st' m') : WP p l e R s mt args below meth c Q (EE D dA s) n0 s0 nL pc ls st m := by
  unfold gG at h
  (try dsimp only at h); split at h
  · split at h
    next ix c0 k0 hfr =>
      (try dsimp only at h); split at h
      next v a r =>
        (try dsimp only at h); split at h
        next hcond =>
          obtain ⟨hk, ha, hpf, hfin⟩ := hcond
          cases h
          obtain ⟨hc, hk0, ref, hlink, hsame⟩ := fr_ok hfr
          intro H locs la hE hS hl
          have hcel := (hE.1.2.2.2 a ha (hE.1.lt (a := a) (by omega))).2.2.2 (by omega)
          rw [hk, Nat.add_sub_cancel_left] at hcel
          obtain ⟨cell, q1, q2, q3, q4⟩ := hcel
          obtain ⟨hSl, hfc, kC, hkC, hkind⟩ := hK.1 c0 hc
          obtain ⟨cf, kf, fi, f, hi, hsl⟩ := hSl k0 hk0
          have hlay := hts _ (cls_in c0 hc _ (u_in_lay hk0))
          have hst := (u_facts hfc hkC (u_lays hts (cls_in c0 hc) hk0) hi).1
          obtain ⟨hn, hf⟩ := pfit_nar hpf
          have go : ∀ H1 : Heap, H1[a]? = some (cell.setSlot f.slot v) → H1.size = H.size → (∀ q, q ≠ a → H1[q]? = H[q]?) → W p l e R s mt args below meth c H1 (locs ++ [⟨a, f.slot⟩]) (mN m - n0) (mS m - s0) Q (F0 mt (pc + 3) la r) := by
            intro H1 e1 e2 e3
            rw [hsl] at e1 ⊢
            have hE1 : Rep D dA (pw m a k0 v) s H1 := Rep.putO hts hK hE ha hk hc hk0 hpf q1 q2 q3 q4 e1 e2 e3
            have h9 := k H1 (locs ++ [⟨a, D.2 c0 k0⟩]) la hE1 (by
              show va_S (fun q => mB (pw m a k0 v) ≤ q) _ _ _
              rw [mB_pw]
              exact hS.put e2 e3 ha) hl
            rw [mN_pw, mS_pw] at h9
            exact h9
          have hslot : f.slot < cell.slots.size := by rw [hsl]; exact k2_hasslot (q4 k0 hk0)
          unfold u_lay at hlay
          cases hff : (cT c0 k0).2.2.2 with
          | false =>
            rw [if_neg (by rw [hff]; decide)] at hlay
            have h6 := u_store hfc hkC hkind hlay hi (cls_ty c0 hc k0 hk0) hn hf
            rcases hlink with hl1 | ⟨host, hl1⟩
            · exact W.putK hx hb (f := f) ⟨hown, hts _ hl1, ⟨_, _, _, FOK.same hts hsame _ hi⟩, hst⟩ (by rw [q2]; exact h6) q1 q3 hslot rfl rfl hd go
            · exact va_WputK hx hb (f := f) hown (va_Nw.use rfl (hNF _ hl1)) (FOK.same hts hsame _ hi) hst (by rw [q2]; exact h6) q1 q3 hslot rfl rfl hd go
          | true =>
            rw [if_pos hff] at hlay
            obtain ⟨hi1, hdecl, -⟩ := hfin hff
            have hcf : mt.cls = cf := by
              obtain ⟨_, _, c', _, _, _, -, -, hf', -, -, -, hown2, -⟩ := Cond.laysFinal_spec hlay
              have e1 : c' = cf := by have := hi.symm.trans hf'; simp at this; exact this.1.symm
              rw [hdecl] at hown2
              rw [← e1]; exact Option.some.inj (hown.symm.trans hown2)
            have h6 := u_fits hfc hkC hkind (Or.inr hlay) hi (cls_ty c0 hc k0 hk0) hn hf
            rcases hlink with hl1 | ⟨host, hl1⟩
            · exact W.putFinK hx hb hown (hts _ hl1) (FOK.same hts hsame _ hi) hst hcf (hini hi1) (by rw [q2]; exact h6) q1 q3 hslot rfl rfl hd go
            · refine va_Wputf hx hb hown (va_Nw.use rfl (hNF _ hl1)) (FOK.same hts hsame _ hi) hst (Or.inr ⟨hcf, hini hi1⟩) q1 (by rw [q3]; exact fun z => by cases z) hslot h6.1 (by rw [q3, q2]; exact h6.2) rfl rfl hd ?_
              have hal : a < H.size := (Array.getElem?_eq_some_iff.mp q1).1
              exact go _ (by simp [Array.getElem?_setIfInBounds, hal]) (by simp) (fun q hq => by simp [Array.getElem?_setIfInBounds, Ne.symm hq])
        next => cases h
      next => cases h
    next => cases h
  · unfold pI at h; split at h
    next x r =>
      (try unfold pI at h); (try dsimp only at h); split at h
      next ii r =>
        (try unfold pA at h); (try dsimp only at h); split at h
        next a r =>
          (try dsimp only at h); split at h
          next hk =>
            (try dsimp only at h); split at h
            next hin =>
              cases h
              intro H locs la hE hS hl
              obtain ⟨q1, q2⟩ := Rep.own hK hE (a := a) (by omega) (by omega) hk.2
              have hi := inb_ok hin
              rw [show aty (mK m a).1 = .int by rw [hk.1]; rfl] at q2
              refine W.iast hx hb q1 q2 (fun q => by cases q) (by show ¬ (ii < 0 ∨ (arrV _ _ _).slots.size ≤ _); rw [arrV_size]; exact hi) rfl rfl hd fun H1 e1 e2 e3 => ?_
              exact k H1 _ la (Rep.putA hE hk.2 (by omega) e1 e2 e3 (by rw [hk.1]; simp [aq, aty, tc, fv, pw, mI_wIs, up_s])) (hS.put e2 e3 hk.2) hl
            next => cases h
          next => cases h
        next => cases h
      next => cases h
    next => cases h
  · unfold pI at h; split at h
    next x r =>
      (try unfold pI at h); (try dsimp only at h); split at h
      next ii r =>
        (try unfold pA at h); (try dsimp only at h); split at h
        next a r =>
          (try dsimp only at h); split at h
          next hk =>
            (try dsimp only at h); split at h
            next hin =>
              cases h
              intro H locs la hE hS hl
              obtain ⟨q1, q2⟩ := Rep.own hK hE (a := a) (by omega) (by omega) hk.2
              have hi := inb_ok hin
              rw [show aty (mK m a).1 = .byte by rw [hk.1]; rfl] at q2
              refine W.bast hx hb q1 q2 (fun q => by cases q) (by show ¬ (ii < 0 ∨ (arrV _ _ _).slots.size ≤ _); rw [arrV_size]; exact hi) rfl rfl hd fun H1 e1 e2 e3 => ?_
              rw [vp_nar_b] at e1
              exact k H1 _ la (Rep.putA hE hk.2 (by omega) e1 e2 e3 (by rw [hk.1]; simp [aq, aty, tc, fv, pw, mI_wIs, up_s])) (hS.put e2 e3 hk.2) hl
            next => cases h
          next =>
            (try dsimp only at h); split at h
            next hk =>
              (try dsimp only at h); split at h
              next hin =>
                cases h
                intro H locs la hE hS hl
                obtain ⟨q1, q2⟩ := Rep.own hK hE (a := a) (by omega) (by omega) hk.2
                have hi := inb_ok hin
                rw [show aty (mK m a).1 = .boolean by rw [hk.1]; rfl] at q2
                refine W.zast hx hb q1 q2 (fun q => by cases q) (by show ¬ (ii < 0 ∨ (arrV _ _ _).slots.size ≤ _); rw [arrV_size]; exact hi) rfl rfl hd fun H1 e1 e2 e3 => ?_
                rw [vp_nar_z] at e1
                exact k H1 _ la (Rep.putA hE hk.2 (by omega) e1 e2 e3 (by rw [hk.1]; simp [aq, aty, tc, fv, pw, mI_wIs, up_s])) (hS.put e2 e3 hk.2) hl
              next => cases h
            next => cases h
        next => cases h
      next => cases h
    next => cases h
  · unfold pL at h; split at h
    next x r =>
      unfold pI at h; split at h
      next ii r =>
        (try unfold pA at h); (try dsimp only at h); split at h
        next a r =>
          (try dsimp only at h); split at h
          next hk =>
            (try dsimp only at h); split at h
            next hin =>
              cases h
              intro H locs la hE hS hl
              obtain ⟨q1, q2⟩ := Rep.own hK hE (a := a) (by omega) (by omega) hk.2
              have hi := inb_ok hin
              rw [show aty (mK m a).1 = .long by rw [hk.1]; rfl] at q2
              refine W.last hx hb q1 q2 (fun q => by cases q) (by show ¬ (ii < 0 ∨ (arrV _ _ _).slots.size ≤ _); rw [arrV_size]; exact hi) rfl rfl hd fun H1 e1 e2 e3 => ?_
              exact k H1 _ la (Rep.putA hE hk.2 (by omega) e1 e2 e3 (by rw [hk.1]; simp [aq, aty, tc, fv, pw, mL_wLs, up_s])) (hS.put e2 e3 hk.2) hl
            next => cases h
          next => cases h
        next => cases h
      next => cases h
    next => cases h
  · cases h
end SndF
