/-! PART 02: the small machine's steps hold of the real one -/
set_option maxRecDepth 100000
def isRt : Value → Bool
  | .retAddr _ => true
  | _ => false
/-- the real locals bear the list's -/
def lvs (la : Array Slot) (nL : Nat) (ls : List Value) : Prop := la.size = nL ∧ lv_wf la ∧ ls.length = nL ∧ ∀ (i : Nat) (v : Value), ls[i]? = some v → isRt v = false → la[i]? = some (.val v)
theorem lvs_at {la : Array Slot} {nL : Nat} {ls : List Value} (h : lvs la nL ls) {i : Nat} {v : Value} (hv : ls[i]? = some v) (hr : isRt v = false) : la[i]? = some (.val v) := h.2.2.2 i v hv hr
/-- the list as pairs -/
def lpr (ls : List Value) : List (Nat × Value) := (ls.zipIdx.filter fun q => !isRt q.1).map fun q => (q.2, q.1)
theorem lpr_mem {ls : List Value} {i : Nat} {v : Value} : (i, v) ∈ lpr ls ↔ ls[i]? = some v ∧ isRt v = false := by
  unfold lpr
  rw [List.mem_map]
  constructor
  · rintro ⟨⟨w, j⟩, h, e⟩
    simp only [Prod.mk.injEq] at e
    obtain ⟨rfl, rfl⟩ := e
    obtain ⟨h1, h2⟩ := List.mem_filter.mp h
    exact ⟨List.mem_zipIdx_iff_getElem?.mp h1, by simpa using h2⟩
  · rintro ⟨h1, h2⟩
    exact ⟨(v, i), List.mem_filter.mpr ⟨List.mem_zipIdx_iff_getElem?.mpr h1, by simpa using h2⟩, rfl⟩
theorem lvs_has {la : Array Slot} {nL : Nat} {ls : List Value} (h : lvs la nL ls) : lv_has la nL (lpr ls) := ⟨h.1, h.2.1, fun q hq => h.2.2.2 q.1 q.2 (lpr_mem.mp hq).1 (lpr_mem.mp hq).2⟩
theorem isL_cat {v : Value} : (v.category == 2) = isL v := by cases v <;> rfl
theorem stl1_len : ∀ (ls : List Value) (i : Nat) (v : Value), (stl1 ls i v).length = ls.length
  | [], _, _ => rfl
  | _ :: _, 0, _ => rfl
  | _ :: t, i + 1, v => by simp [stl1, stl1_len t i v]
theorem clr1_len (ls : List Value) : (clr1 ls).length = ls.length := by cases ls <;> rfl
theorem stl2_len : ∀ (ls : List Value) (i : Nat) (v : Value), (stl2 ls i v).length = ls.length
  | [], _, _ => rfl
  | _ :: t, 0, _ => by simp [stl2, clr1_len]
  | _ :: t, i + 1, v => by simp [stl2, stl2_len t i v]
theorem stl1_get : ∀ (ls : List Value) (i j : Nat) (v w : Value), (stl1 ls i v)[j]? = some w → isRt w = false → (j = i ∧ w = v) ∨ (j ≠ i ∧ ls[j]? = some w ∧ ¬ (j + 1 = i ∧ isL w = true))
  | [], i, j, v, w, h, _ => by simp [stl1] at h
  | x :: t, 0, 0, v, w, h, _ => by simp [stl1] at h; exact Or.inl ⟨rfl, h.symm⟩
  | x :: t, 0, j + 1, v, w, h, _ => by simp [stl1] at h; exact Or.inr ⟨by omega, by simpa using h, by omega⟩
  | x :: t, i + 1, 0, v, w, h, hr => by
    simp only [stl1, List.getElem?_cons_zero, Option.some.injEq] at h
    refine Or.inr ⟨by omega, ?_, ?_⟩
    · cases hc : (isL x && i == 0) with
      | true => rw [hc] at h; subst h; cases hr
      | false => rw [hc] at h; subst h; rfl
    · rintro ⟨h1, h2⟩
      have hi : i = 0 := by omega
      subst hi
      cases hx : isL x with
      | true => rw [hx] at h; subst h; cases hr
      | false => rw [hx] at h; simp at h; subst h; rw [hx] at h2; cases h2
  | x :: t, i + 1, j + 1, v, w, h, hr => by
    simp only [stl1, List.getElem?_cons_succ] at h
    rcases stl1_get t i j v w h hr with ⟨h1, h2⟩ | ⟨h1, h2, h3⟩
    · exact Or.inl ⟨by omega, h2⟩
    · exact Or.inr ⟨by omega, by simpa using h2, by rintro ⟨a, b⟩; exact h3 ⟨by omega, b⟩⟩
theorem stl2_get : ∀ (ls : List Value) (i j : Nat) (v w : Value), (stl2 ls i v)[j]? = some w → isRt w = false → (j = i ∧ w = v) ∨ (j ≠ i ∧ j ≠ i + 1 ∧ ls[j]? = some w ∧ ¬ (j + 1 = i ∧ isL w = true))
  | [], i, j, v, w, h, _ => by simp [stl2] at h
  | x :: t, 0, 0, v, w, h, _ => by simp [stl2] at h; exact Or.inl ⟨rfl, h.symm⟩
  | x :: [], 0, j + 1, v, w, h, hr => by simp [stl2, clr1] at h
  | x :: y :: t, 0, 1, v, w, h, hr => by simp [stl2, clr1] at h; subst h; cases hr
  | x :: y :: t, 0, j + 2, v, w, h, hr => by simp [stl2, clr1] at h; exact Or.inr ⟨by omega, by omega, by simpa using h, by omega⟩
  | x :: t, i + 1, 0, v, w, h, hr => by
    simp only [stl2, List.getElem?_cons_zero, Option.some.injEq] at h
    refine Or.inr ⟨by omega, by omega, ?_, ?_⟩
    · cases hc : (isL x && i == 0) with
      | true => rw [hc] at h; subst h; cases hr
      | false => rw [hc] at h; subst h; rfl
    · rintro ⟨h1, h2⟩
      have hi : i = 0 := by omega
      subst hi
      cases hx : isL x with
      | true => rw [hx] at h; subst h; cases hr
      | false => rw [hx] at h; simp at h; subst h; rw [hx] at h2; cases h2
  | x :: t, i + 1, j + 1, v, w, h, hr => by
    simp only [stl2, List.getElem?_cons_succ] at h
    rcases stl2_get t i j v w h hr with ⟨h1, h2⟩ | ⟨h1, h2, h3, h4⟩
    · exact Or.inl ⟨by omega, h2⟩
    · exact Or.inr ⟨by omega, by omega, by simpa using h3, by rintro ⟨a, b⟩; exact h4 ⟨by omega, b⟩⟩
theorem lvs_st1 {la la' : Array Slot} {nL i : Nat} {ls : List Value} {v : Value} (h : lvs la nL ls) (h' : lv_has la' nL ((i, v) :: (lpr ls).filter (fun q => !(q.1 == i) && !(q.1 + 1 == i && q.2.category == 2)))) : lvs la' nL (stl1 ls i v) := by
  refine ⟨h'.1, h'.2.1, (stl1_len _ _ _).trans h.2.2.1, fun j w hw hr => ?_⟩
  refine h'.2.2 (j, w) ?_
  rcases stl1_get ls i j v w hw hr with ⟨rfl, rfl⟩ | ⟨h1, h2, h3⟩
  · exact List.mem_cons_self
  · refine List.mem_cons_of_mem _ (List.mem_filter.mpr ⟨lpr_mem.mpr ⟨h2, hr⟩, ?_⟩)
    show (!(j == i) && !(j + 1 == i && w.category == 2)) = true
    rw [isL_cat]
    cases hL : isL w with
    | false => simp [h1]
    | true =>
      have h4 : ¬ j + 1 = i := fun e => h3 ⟨e, hL⟩
      simp [h1, h4]
theorem lvs_st2 {la la' : Array Slot} {nL i : Nat} {ls : List Value} {v : Value} (h : lvs la nL ls) (h' : lv_has la' nL ((i, v) :: (lpr ls).filter (fun q => !(q.1 == i) && (!(q.1 == i + 1) && !(q.1 + 1 == i && q.2.category == 2))))) : lvs la' nL (stl2 ls i v) := by
  refine ⟨h'.1, h'.2.1, (stl2_len _ _ _).trans h.2.2.1, fun j w hw hr => ?_⟩
  refine h'.2.2 (j, w) ?_
  rcases stl2_get ls i j v w hw hr with ⟨rfl, rfl⟩ | ⟨h1, h2, h3, h5⟩
  · exact List.mem_cons_self
  · refine List.mem_cons_of_mem _ (List.mem_filter.mpr ⟨lpr_mem.mpr ⟨h3, hr⟩, ?_⟩)
    show (!(j == i) && (!(j == i + 1) && !(j + 1 == i && w.category == 2))) = true
    rw [isL_cat]
    cases hL : isL w with
    | false => simp [h1, h2]
    | true =>
      have h4 : ¬ j + 1 = i := fun e => h5 ⟨e, hL⟩
      simp [h1, h2, h4]
theorem p1_cat {v : Value} (h : isL v = false) : v.category = 1 := by cases v <;> first | rfl | cases h
theorem p2_cat {v : Value} (h : isL v = true) : v.category = 2 := by cases v <;> first | rfl | cases h
/-- at a place of the method's code, with the memory m in the real heap (E says how), the machine comes to Q -/
def WP (p : Program) (l : Launch) (e : Env) (R : Room) (s : State) (mt : MethodId) (args : Array Value) (below : List Frame) (meth : Method) (c : Code) (Q : State → Prop) (E : Mem → Heap → Prop) (n0 s0 nL pc : Nat) (ls st : List Value) (m : Mem) : Prop :=
  ∀ (H : Heap) (locs : List Loc) (la : Array Slot), E m H → va_S (fun q => mB m ≤ q) s.heap H locs → lvs la nL ls → W p l e R s mt args below meth c H locs (mN m - n0) (mS m - s0) Q (F0 mt pc la st)
section SndA
variable {p : Program} {l : Launch} {e : Env} {R : Room} {s : State} {mt : MethodId} {args : Array Value} {below : List Frame} {meth : Method} {c : Code} {Q : State → Prop} {cc : ByteArray} {E : Mem → Heap → Prop} {n0 s0 nL pc pc' : Nat} {ls st ls' st' : List Value} {m m' : Mem} {i : Instr}
set_option maxHeartbeats 2000000 in
theorem gA_ok (hx : p.tables.exec = Jvm.exec) (hb : c.code = cc) (hd : decode cc pc = .ok (i, iln i)) (h : gA i pc ls st m = some (pc', ls', st', m')) (k : WP p l e R s mt args below meth c Q E n0 s0 nL pc' ls' st' m') : WP p l e R s mt args below meth c Q E n0 s0 nL pc ls st m := by
  unfold gA at h
  (try dsimp only at h); split at h
  · cases h; exact fun H locs la hE hS hl => lv_iconst hx hb hd rfl (k H locs la hE hS hl)
  · cases h; exact fun H locs la hE hS hl => lv_bipush hx hb hd rfl (k H locs la hE hS hl)
  · cases h; exact fun H locs la hE hS hl => lv_sipush hx hb hd rfl (k H locs la hE hS hl)
  · cases h; exact fun H locs la hE hS hl => lv_lconst hx hb hd rfl (k H locs la hE hS hl)
  · cases h; exact fun H locs la hE hS hl => lv_null hx hb hd (k H locs la hE hS hl)
  · unfold lI at h; split at h
    next hv => cases h; exact fun H locs la hE hS hl => lv_iload_n hx hb hd rfl (lvs_at hl hv rfl) (k H locs la hE hS hl)
    next => cases h
  · unfold lI at h; split at h
    next hv => cases h; exact fun H locs la hE hS hl => lv_iload hx hb hd (lvs_at hl hv rfl) (k H locs la hE hS hl)
    next => cases h
  · unfold lL at h; split at h
    next hv => cases h; exact fun H locs la hE hS hl => lv_lload_n hx hb hd rfl (lvs_at hl hv rfl) (k H locs la hE hS hl)
    next => cases h
  · unfold lL at h; split at h
    next hv => cases h; exact fun H locs la hE hS hl => lv_lload hx hb hd (lvs_at hl hv rfl) (k H locs la hE hS hl)
    next => cases h
  · unfold lR at h; split at h
    next hv => cases h; exact fun H locs la hE hS hl => lv_aload_n hx hb hd rfl (lvs_at hl hv rfl) (k H locs la hE hS hl)
    next hv => cases h; exact fun H locs la hE hS hl => lv_aload_nN hx hb hd rfl (lvs_at hl hv rfl) (k H locs la hE hS hl)
    next => cases h
  · unfold lR at h; split at h
    next hv => cases h; exact fun H locs la hE hS hl => lv_aload hx hb hd (lvs_at hl hv rfl) (k H locs la hE hS hl)
    next hv => cases h; exact fun H locs la hE hS hl => lv_aloadN hx hb hd (lvs_at hl hv rfl) (k H locs la hE hS hl)
    next => cases h
  · cases h
set_option maxHeartbeats 2000000 in
theorem gB_ok (hx : p.tables.exec = Jvm.exec) (hb : c.code = cc) (hd : decode cc pc = .ok (i, iln i)) (h : gB i pc ls st m = some (pc', ls', st', m')) (k : WP p l e R s mt args below meth c Q E n0 s0 nL pc' ls' st' m') : WP p l e R s mt args below meth c Q E n0 s0 nL pc ls st m := by
  unfold gB at h
  (try dsimp only at h); split at h
  · (try unfold pI at h); (try dsimp only at h); split at h
    next =>
      (try dsimp only at h); split at h
      next hi => cases h; exact fun H locs la hE hS hl => lv_istore_n hx hb hd rfl (lvs_has hl) (by rw [← hl.2.2.1]; exact hi) rfl (fun la' h' => k H locs la' hE hS (lvs_st1 hl h'))
      next => cases h
    next => cases h
  · (try unfold pI at h); (try dsimp only at h); split at h
    next =>
      (try dsimp only at h); split at h
      next hi => cases h; exact fun H locs la hE hS hl => lv_istore hx hb hd (lvs_has hl) (by rw [← hl.2.2.1]; exact hi) rfl (fun la' h' => k H locs la' hE hS (lvs_st1 hl h'))
      next => cases h
    next => cases h
  · (try unfold pL at h); (try dsimp only at h); split at h
    next =>
      (try dsimp only at h); split at h
      next hi => cases h; exact fun H locs la hE hS hl => lv_lstore_n hx hb hd rfl (lvs_has hl) (by rw [← hl.2.2.1]; exact hi) rfl (fun la' h' => k H locs la' hE hS (lvs_st2 hl h'))
      next => cases h
    next => cases h
  · (try unfold pL at h); (try dsimp only at h); split at h
    next =>
      (try dsimp only at h); split at h
      next hi => cases h; exact fun H locs la hE hS hl => lv_lstore hx hb hd (lvs_has hl) (by rw [← hl.2.2.1]; exact hi) rfl (fun la' h' => k H locs la' hE hS (lvs_st2 hl h'))
      next => cases h
    next => cases h
  · unfold pR at h; split at h
    next =>
      (try dsimp only at h); split at h
      next hi => cases h; exact fun H locs la hE hS hl => lv_astore_n hx hb hd rfl (lvs_has hl) (by rw [← hl.2.2.1]; exact hi) rfl (fun la' h' => k H locs la' hE hS (lvs_st1 hl h'))
      next => cases h
    next =>
      (try dsimp only at h); split at h
      next hi => cases h; exact fun H locs la hE hS hl => lv_astore_nN hx hb hd rfl (lvs_has hl) (by rw [← hl.2.2.1]; exact hi) rfl (fun la' h' => k H locs la' hE hS (lvs_st1 hl h'))
      next => cases h
    next => cases h
  · unfold pR at h; split at h
    next =>
      (try dsimp only at h); split at h
      next hi => cases h; exact fun H locs la hE hS hl => lv_astore hx hb hd (lvs_has hl) (by rw [← hl.2.2.1]; exact hi) rfl (fun la' h' => k H locs la' hE hS (lvs_st1 hl h'))
      next => cases h
    next =>
      (try dsimp only at h); split at h
      next hi => cases h; exact fun H locs la hE hS hl => lv_astoreN hx hb hd (lvs_has hl) (by rw [← hl.2.2.1]; exact hi) rfl (fun la' h' => k H locs la' hE hS (lvs_st1 hl h'))
      next => cases h
    next => cases h
  · unfold lI at h; split at h
    next hv =>
      cases h
      intro H locs la hE hS hl
      have hi := (List.getElem?_eq_some_iff.mp hv).1
      obtain ⟨q, hq⟩ := List.getElem?_of_mem (lpr_mem.mpr ⟨hv, rfl⟩)
      exact lv_iinc hx hb hd (lvs_has hl) hq rfl (by rw [← hl.2.2.1]; exact hi) rfl (fun la' h' => k H locs la' hE hS (lvs_st1 hl h'))
    next => cases h
  · unfold p1 at h; split at h
    next v r =>
      cases hv : isL v with
      | true => rw [hv] at h; cases h
      | false => rw [hv] at h; cases h; exact fun H locs la hE hS hl => lv_dup hx hb hd (p1_cat hv) (k H locs la hE hS hl)
    next => cases h
  · unfold p1 at h; split at h
    next v r =>
      cases hv : isL v with
      | true => rw [hv] at h; cases h
      | false => rw [hv] at h; cases h; exact fun H locs la hE hS hl => lv_pop hx hb hd (p1_cat hv) (k H locs la hE hS hl)
    next => cases h
  · unfold p1 at h; split at h
    next v r =>
      cases hv : isL v with
      | true => rw [hv] at h; cases h
      | false =>
        rw [hv] at h
        simp only [cond_false] at h
        (try dsimp only at h); split at h
        next w r2 =>
          cases hw : isL w with
          | true => rw [hw] at h; cases h
          | false => rw [hw] at h; cases h; exact fun H locs la hE hS hl => lv_dup_x1 hx hb hd (p1_cat hv) (p1_cat hw) (k H locs la hE hS hl)
        next => cases h
    next => cases h
  · split at h
    next v w r =>
      cases hv : isL v with
      | true => rw [hv] at h; cases h; exact fun H locs la hE hS hl => lv_dup2_2 hx hb hd (p2_cat hv) (k H locs la hE hS hl)
      | false =>
        rw [hv] at h
        simp only [cond_false] at h
        cases hw : isL w with
        | true => rw [hw] at h; cases h
        | false => rw [hw] at h; cases h; exact fun H locs la hE hS hl => lv_dup2_11 hx hb hd (p1_cat hv) (p1_cat hw) (k H locs la hE hS hl)
    next v =>
      cases hv : isL v with
      | true => rw [hv] at h; cases h; exact fun H locs la hE hS hl => lv_dup2_2 hx hb hd (p2_cat hv) (k H locs la hE hS hl)
      | false => rw [hv] at h; cases h
    next => cases h
  · cases h
set_option maxHeartbeats 2000000 in
theorem gC_ok (hx : p.tables.exec = Jvm.exec) (hb : c.code = cc) (hd : decode cc pc = .ok (i, iln i)) (h : gC i pc ls st m = some (pc', ls', st', m')) (k : WP p l e R s mt args below meth c Q E n0 s0 nL pc' ls' st' m') : WP p l e R s mt args below meth c Q E n0 s0 nL pc ls st m := by
  unfold gC at h
  (try dsimp only at h); split at h
  · (try unfold pI at h); (try dsimp only at h); split at h
    next =>
      (try unfold pI at h); (try dsimp only at h); split at h
      next =>
        cases h; exact fun H locs la hE hS hl => lv_iadd hx hb hd (k H locs la hE hS hl)
      next => cases h

    next => cases h
  · (try unfold pI at h); (try dsimp only at h); split at h
    next =>
      (try unfold pI at h); (try dsimp only at h); split at h
      next =>
        cases h; exact fun H locs la hE hS hl => lv_isub hx hb hd (k H locs la hE hS hl)
      next => cases h

    next => cases h
  · (try unfold pI at h); (try dsimp only at h); split at h
    next =>
      (try unfold pI at h); (try dsimp only at h); split at h
      next =>
        cases h; exact fun H locs la hE hS hl => lv_imul hx hb hd (k H locs la hE hS hl)
      next => cases h

    next => cases h
  · (try unfold pI at h); (try dsimp only at h); split at h
    next =>
      (try unfold pI at h); (try dsimp only at h); split at h
      next =>
        cases h; exact fun H locs la hE hS hl => lv_iand hx hb hd (k H locs la hE hS hl)
      next => cases h

    next => cases h
  · (try unfold pI at h); (try dsimp only at h); split at h
    next =>
      (try unfold pI at h); (try dsimp only at h); split at h
      next =>
        cases h; exact fun H locs la hE hS hl => lv_ior hx hb hd (k H locs la hE hS hl)
      next => cases h

    next => cases h
  · (try unfold pI at h); (try dsimp only at h); split at h
    next =>
      (try unfold pI at h); (try dsimp only at h); split at h
      next =>
        cases h; exact fun H locs la hE hS hl => lv_ixor hx hb hd (k H locs la hE hS hl)
      next => cases h

    next => cases h
  · (try unfold pI at h); (try dsimp only at h); split at h
    next =>
      (try unfold pI at h); (try dsimp only at h); split at h
      next =>
        (try dsimp only at h); split at h
        next => cases h
        next hne => cases h; exact fun H locs la hE hS hl => lv_idiv hx hb hd hne (k H locs la hE hS hl)
      next => cases h

    next => cases h
  · (try unfold pI at h); (try dsimp only at h); split at h
    next =>
      (try unfold pI at h); (try dsimp only at h); split at h
      next =>
        (try dsimp only at h); split at h
        next => cases h
        next hne => cases h; exact fun H locs la hE hS hl => lv_irem hx hb hd hne (k H locs la hE hS hl)
      next => cases h

    next => cases h
  · (try unfold pI at h); (try dsimp only at h); split at h
    next =>
      (try unfold pI at h); (try dsimp only at h); split at h
      next =>
        cases h; exact fun H locs la hE hS hl => lv_ishl hx hb hd (k H locs la hE hS hl)
      next => cases h

    next => cases h
  · (try unfold pI at h); (try dsimp only at h); split at h
    next =>
      (try unfold pI at h); (try dsimp only at h); split at h
      next =>
        cases h; exact fun H locs la hE hS hl => lv_ishr hx hb hd (k H locs la hE hS hl)
      next => cases h

    next => cases h
  · (try unfold pI at h); (try dsimp only at h); split at h
    next =>
      (try unfold pI at h); (try dsimp only at h); split at h
      next =>
        cases h; exact fun H locs la hE hS hl => lv_iushr hx hb hd rfl (k H locs la hE hS hl)
      next => cases h

    next => cases h
  · (try unfold pI at h); (try dsimp only at h); split at h
    next =>
      cases h; exact fun H locs la hE hS hl => lv_ineg hx hb hd (k H locs la hE hS hl)
    next => cases h
  · (try unfold pI at h); (try dsimp only at h); split at h
    next =>
      cases h; exact fun H locs la hE hS hl => lv_i2l hx hb hd rfl (k H locs la hE hS hl)
    next => cases h
  · (try unfold pI at h); (try dsimp only at h); split at h
    next =>
      cases h; exact fun H locs la hE hS hl => lv_i2b hx hb hd rfl (k H locs la hE hS hl)
    next => cases h
  · (try unfold pI at h); (try dsimp only at h); split at h
    next =>
      cases h; exact fun H locs la hE hS hl => lv_i2c hx hb hd rfl (k H locs la hE hS hl)
    next => cases h
  · cases h
set_option maxHeartbeats 2000000 in
theorem gD_ok (hx : p.tables.exec = Jvm.exec) (hb : c.code = cc) (hd : decode cc pc = .ok (i, iln i)) (h : gD i pc ls st m = some (pc', ls', st', m')) (k : WP p l e R s mt args below meth c Q E n0 s0 nL pc' ls' st' m') : WP p l e R s mt args below meth c Q E n0 s0 nL pc ls st m := by
  unfold gD at h
  (try dsimp only at h); split at h
  · (try unfold pL at h); (try dsimp only at h); split at h
    next =>
      (try unfold pL at h); (try dsimp only at h); split at h
      next =>
        cases h; exact fun H locs la hE hS hl => lv_ladd hx hb hd (k H locs la hE hS hl)
      next => cases h

    next => cases h
  · (try unfold pL at h); (try dsimp only at h); split at h
    next =>
      (try unfold pL at h); (try dsimp only at h); split at h
      next =>
        cases h; exact fun H locs la hE hS hl => lv_lsub hx hb hd (k H locs la hE hS hl)
      next => cases h

    next => cases h
  · (try unfold pL at h); (try dsimp only at h); split at h
    next =>
      (try unfold pL at h); (try dsimp only at h); split at h
      next =>
        cases h; exact fun H locs la hE hS hl => lv_lmul hx hb hd (k H locs la hE hS hl)
      next => cases h

    next => cases h
  · (try unfold pL at h); (try dsimp only at h); split at h
    next =>
      (try unfold pL at h); (try dsimp only at h); split at h
      next =>
        cases h; exact fun H locs la hE hS hl => lv_lor hx hb hd (k H locs la hE hS hl)
      next => cases h

    next => cases h
  · (try unfold pL at h); (try dsimp only at h); split at h
    next =>
      (try unfold pL at h); (try dsimp only at h); split at h
      next =>
        (try dsimp only at h); split at h
        next => cases h
        next hne => cases h; exact fun H locs la hE hS hl => lv_ldiv hx hb hd hne (k H locs la hE hS hl)
      next => cases h

    next => cases h
  · (try unfold pL at h); (try dsimp only at h); split at h
    next =>
      (try unfold pL at h); (try dsimp only at h); split at h
      next =>
        (try dsimp only at h); split at h
        next => cases h
        next hne => cases h; exact fun H locs la hE hS hl => lv_lrem hx hb hd hne (k H locs la hE hS hl)
      next => cases h

    next => cases h
  · (try unfold pL at h); (try dsimp only at h); split at h
    next =>
      cases h; exact fun H locs la hE hS hl => lv_lneg hx hb hd (k H locs la hE hS hl)
    next => cases h
  · (try unfold pI at h); (try dsimp only at h); split at h
    next =>
      (try unfold pL at h); (try dsimp only at h); split at h
      next =>
        cases h; exact fun H locs la hE hS hl => lv_lshl hx hb hd rfl (k H locs la hE hS hl)
      next => cases h

    next => cases h
  · (try unfold pI at h); (try dsimp only at h); split at h
    next =>
      (try unfold pL at h); (try dsimp only at h); split at h
      next =>
        cases h; exact fun H locs la hE hS hl => lv_lshr hx hb hd rfl (k H locs la hE hS hl)
      next => cases h

    next => cases h
  · (try unfold pL at h); (try dsimp only at h); split at h
    next =>
      cases h; exact fun H locs la hE hS hl => lv_l2i hx hb hd rfl (k H locs la hE hS hl)
    next => cases h
  · (try unfold pL at h); (try dsimp only at h); split at h
    next =>
      (try unfold pL at h); (try dsimp only at h); split at h
      next =>
        cases h; exact fun H locs la hE hS hl => W.lcmp hx hb hd (k H locs la hE hS hl)
      next => cases h

    next => cases h
  · cases h
theorem br_ok {cnd : Prop} [Decidable cnd] {off : Int} {r : List Value} (h : br cnd pc off ls r m = some (pc', ls', st', m')) (k : WP p l e R s mt args below meth c Q E n0 s0 nL pc' ls' st' m')
    (row : ∀ (H : Heap) (locs : List Loc) (la : Array Slot) (t : Nat), (pc : Int) + off = (t : Int) → (cnd → W p l e R s mt args below meth c H locs (mN m - n0) (mS m - s0) Q (F0 mt t la r)) → (¬ cnd → W p l e R s mt args below meth c H locs (mN m - n0) (mS m - s0) Q (F0 mt (pc + 3) la r)) → W p l e R s mt args below meth c H locs (mN m - n0) (mS m - s0) Q (F0 mt pc la st)) : WP p l e R s mt args below meth c Q E n0 s0 nL pc ls st m := by
  unfold br gt0 at h
  (try dsimp only at h); split at h
  next h0 =>
    have ht : (pc : Int) + off = (((pc : Int) + off).toNat : Int) := by omega
    (try dsimp only at h); split at h
    next hc => cases h; exact fun H locs la hE hS hl => row H locs la _ ht (fun _ => k H locs la hE hS hl) (fun n => absurd hc n)
    next hc => cases h; exact fun H locs la hE hS hl => row H locs la _ ht (fun y => absurd y hc) (fun _ => k H locs la hE hS hl)
  next => cases h
set_option maxHeartbeats 2000000 in
theorem gE_ok (hx : p.tables.exec = Jvm.exec) (hb : c.code = cc) (hd : decode cc pc = .ok (i, iln i)) (h : gE i pc ls st m = some (pc', ls', st', m')) (k : WP p l e R s mt args below meth c Q E n0 s0 nL pc' ls' st' m') : WP p l e R s mt args below meth c Q E n0 s0 nL pc ls st m := by
  unfold gE at h
  (try dsimp only at h); split at h
  · (try unfold pI at h); (try dsimp only at h); split at h
    next =>
      exact br_ok h k (fun H locs la t ht kt kf => lv_if_eq hx hb hd ht kt kf)
    next => cases h
  · (try unfold pI at h); (try dsimp only at h); split at h
    next =>
      exact br_ok h k (fun H locs la t ht kt kf => lv_if_ne hx hb hd ht kt (fun q => kf (fun n => n q)))
    next => cases h
  · (try unfold pI at h); (try dsimp only at h); split at h
    next =>
      exact br_ok h k (fun H locs la t ht kt kf => lv_if_lt hx hb hd ht kt kf)
    next => cases h
  · (try unfold pI at h); (try dsimp only at h); split at h
    next =>
      exact br_ok h k (fun H locs la t ht kt kf => lv_if_ge hx hb hd ht kt kf)
    next => cases h
  · (try unfold pI at h); (try dsimp only at h); split at h
    next =>
      exact br_ok h k (fun H locs la t ht kt kf => lv_if_gt hx hb hd ht kt kf)
    next => cases h
  · (try unfold pI at h); (try dsimp only at h); split at h
    next =>
      exact br_ok h k (fun H locs la t ht kt kf => lv_if_le hx hb hd ht kt kf)
    next => cases h
  · (try unfold pI at h); (try dsimp only at h); split at h
    next =>
      (try unfold pI at h); (try dsimp only at h); split at h
      next =>
        exact br_ok h k (fun H locs la t ht kt kf => lv_icmp_eq hx hb hd ht kt kf)
      next => cases h

    next => cases h
  · (try unfold pI at h); (try dsimp only at h); split at h
    next =>
      (try unfold pI at h); (try dsimp only at h); split at h
      next =>
        exact br_ok h k (fun H locs la t ht kt kf => lv_icmp_ne hx hb hd ht kt (fun q => kf (fun n => n q)))
      next => cases h

    next => cases h
  · (try unfold pI at h); (try dsimp only at h); split at h
    next =>
      (try unfold pI at h); (try dsimp only at h); split at h
      next =>
        exact br_ok h k (fun H locs la t ht kt kf => lv_icmp_lt hx hb hd ht kt kf)
      next => cases h

    next => cases h
  · (try unfold pI at h); (try dsimp only at h); split at h
    next =>
      (try unfold pI at h); (try dsimp only at h); split at h
      next =>
        exact br_ok h k (fun H locs la t ht kt kf => lv_icmp_ge hx hb hd ht kt kf)
      next => cases h

    next => cases h
  · (try unfold pI at h); (try dsimp only at h); split at h
    next =>
      (try unfold pI at h); (try dsimp only at h); split at h
      next =>
        exact br_ok h k (fun H locs la t ht kt kf => lv_icmp_gt hx hb hd ht kt kf)
      next => cases h

    next => cases h
  · (try unfold pI at h); (try dsimp only at h); split at h
    next =>
      (try unfold pI at h); (try dsimp only at h); split at h
      next =>
        exact br_ok h k (fun H locs la t ht kt kf => lv_icmp_le hx hb hd ht kt kf)
      next => cases h

    next => cases h
  · unfold pR at h; split at h
    next =>
      (try dsimp only at h); split at h
      next => exact br_ok h k (fun H locs la t ht kt kf => lv_acmp_eq (rx := some _) (ry := some _) hx hb hd ht kt kf)
      next => exact br_ok h k (fun H locs la t ht kt kf => lv_acmp_eq (rx := none) (ry := some _) hx hb hd ht kt kf)
      next => cases h
    next =>
      (try dsimp only at h); split at h
      next => exact br_ok h k (fun H locs la t ht kt kf => lv_acmp_eq (rx := some _) (ry := none) hx hb hd ht kt kf)
      next => exact br_ok h k (fun H locs la t ht kt kf => lv_acmp_eq (rx := none) (ry := none) hx hb hd ht kt kf)
      next => cases h
    next => cases h
  · unfold pR at h; split at h
    next =>
      (try dsimp only at h); split at h
      next => exact br_ok h k (fun H locs la t ht kt kf => lv_acmp_ne (rx := some _) (ry := some _) hx hb hd ht kt (fun q => kf (fun n => n q)))
      next => exact br_ok h k (fun H locs la t ht kt kf => lv_acmp_ne (rx := none) (ry := some _) hx hb hd ht kt (fun q => kf (fun n => n q)))
      next => cases h
    next =>
      (try dsimp only at h); split at h
      next => exact br_ok h k (fun H locs la t ht kt kf => lv_acmp_ne (rx := some _) (ry := none) hx hb hd ht kt (fun q => kf (fun n => n q)))
      next => exact br_ok h k (fun H locs la t ht kt kf => lv_acmp_ne (rx := none) (ry := none) hx hb hd ht kt (fun q => kf (fun n => n q)))
      next => cases h
    next => cases h
  · unfold pR at h; split at h
    next => exact br_ok h k (fun H locs la t ht kt kf => lv_ifnull hx hb hd (kf (fun q => nomatch q)))
    next => exact br_ok h k (fun H locs la t ht kt kf => lv_ifnullN hx hb hd ht (kt rfl))
    next => cases h
  · unfold pR at h; split at h
    next => exact br_ok h k (fun H locs la t ht kt kf => lv_ifnonnull hx hb hd ht (kt (fun q => nomatch q)))
    next => exact br_ok h k (fun H locs la t ht kt kf => lv_ifnonnullN hx hb hd (kf (fun q => q rfl)))
    next => cases h
  · unfold gt0 at h; split at h
    next h0 => cases h; exact fun H locs la hE hS hl => lv_goto hx hb hd (by omega) (k H locs la hE hS hl)
    next => cases h
  · cases h
end SndA
