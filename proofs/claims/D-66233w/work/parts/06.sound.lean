/-! THE MEANINGS ARE THE MACHINE's: each one-instruction meaning gives am_Run, by the kit's rows -/
set_option maxRecDepth 100000
def am_KR (r : am_MR) (K : am_K) (Q : am_Q) : Prop := ∀ B' pc' al' st' m', K B' pc' al' st' m' → am_Run B' r pc' al' st' m' Q
section SO
variable {B : am_Bd} {r : am_MR} {pc nx : Nat} {ts : List Nat} {al : am_AL} {st : am_ST} {m : am_Mem} {K : am_K} {Q : am_Q}
/-- a step that leaves heap, locals and room -/
theorem so_step {st' : am_ST} (hs : ∀ (p : Program) (l : Launch) (e : Env) (R : Room) (s : State) (mid : MethodId) (args : Array Value) (below : List Frame) (meth : Method) (c : Code) (H : Heap) (locs : List Loc) (cells slots : Nat) (Qs : State → Prop) (ls : Array Slot) (b h0 Ln : Nat) (xs : Nat → Int32) (D : va_G) (aC : Nat → ClassId),
    am_Cx p s mid args meth c r b h0 Ln xs D aC → am_Hd b h0 Ln xs D aC m H → va_S (fun q => h0 ≤ q) s.heap H locs → am_Lv (am_ad b h0) ls r.2.2.1 al → am_Rm B R cells slots → W p l e R s mid args below meth c H locs cells slots Qs (F0 mid nx ls (st'.map (am_rv (am_ad b h0)))) → W p l e R s mid args below meth c H locs cells slots Qs (F0 mid pc ls (st.map (am_rv (am_ad b h0)))))
    (h : am_Run B r nx al st' m Q) : am_Run B r pc al st m Q := by
  intro p l e R s mid args below meth c H locs cells slots Qs ls b h0 Ln xs D aC C hH hS hL hR hE
  exact hs p l e R s mid args below meth c H locs cells slots Qs ls b h0 Ln xs D aC C hH hS hL hR (h p l e R s mid args below meth c H locs cells slots Qs ls b h0 Ln xs D aC C hH hS hL hR hE)
/-- a step that changes the locals -/
theorem so_loc {st' : am_ST} {al' : am_AL} (hs : ∀ (p : Program) (l : Launch) (e : Env) (R : Room) (s : State) (mid : MethodId) (args : Array Value) (below : List Frame) (meth : Method) (c : Code) (H : Heap) (locs : List Loc) (cells slots : Nat) (Qs : State → Prop) (ls : Array Slot) (b h0 Ln : Nat) (xs : Nat → Int32) (D : va_G) (aC : Nat → ClassId),
    am_Cx p s mid args meth c r b h0 Ln xs D aC → am_Lv (am_ad b h0) ls r.2.2.1 al → (∀ ls', am_Lv (am_ad b h0) ls' r.2.2.1 al' → W p l e R s mid args below meth c H locs cells slots Qs (F0 mid nx ls' (st'.map (am_rv (am_ad b h0))))) → W p l e R s mid args below meth c H locs cells slots Qs (F0 mid pc ls (st.map (am_rv (am_ad b h0)))))
    (h : am_Run B r nx al' st' m Q) : am_Run B r pc al st m Q := by
  intro p l e R s mid args below meth c H locs cells slots Qs ls b h0 Ln xs D aC C hH hS hL hR hE
  exact hs p l e R s mid args below meth c H locs cells slots Qs ls b h0 Ln xs D aC C hL (fun ls' hL' => h p l e R s mid args below meth c H locs cells slots Qs ls' b h0 Ln xs D aC C hH hS hL' hR hE)
theorem so_loadI {i : Nat} (hd : (∃ k : Fin 4, (k : Nat) = i ∧ decode r.2.1 pc = .ok (.iload_n k, 1) ∧ nx = pc + 1) ∨ (decode r.2.1 pc = .ok (.iload i, 2) ∧ nx = pc + 2)) (h : ao_loadI i nx B al st m K) (hK : am_KR r K Q) : am_Run B r pc al st m Q := by
  unfold ao_loadI at h
  split at h
  · rename_i x hg
    refine so_step (st' := .int x :: st) ?_ (hK _ _ _ _ _ h)
    intro p l e R s mid args below meth c H locs cells slots Qs ls b h0 Ln xs D aC C hH hS hL hR kk
    rcases hd with ⟨k, hk, hd, rfl⟩ | ⟨hd, rfl⟩
    · exact lv_iload_n C.1 C.2.1 hd hk (hL.2.2.2 _ _ hg) kk
    · exact lv_iload C.1 C.2.1 hd (hL.2.2.2 _ _ hg) kk
  · exact absurd h id
theorem so_loadL {i : Nat} (hd : (∃ k : Fin 4, (k : Nat) = i ∧ decode r.2.1 pc = .ok (.lload_n k, 1) ∧ nx = pc + 1) ∨ (decode r.2.1 pc = .ok (.lload i, 2) ∧ nx = pc + 2)) (h : ao_loadL i nx B al st m K) (hK : am_KR r K Q) : am_Run B r pc al st m Q := by
  unfold ao_loadL at h
  split at h
  · rename_i x hg
    refine so_step (st' := .long x :: st) ?_ (hK _ _ _ _ _ h)
    intro p l e R s mid args below meth c H locs cells slots Qs ls b h0 Ln xs D aC C hH hS hL hR kk
    rcases hd with ⟨k, hk, hd, rfl⟩ | ⟨hd, rfl⟩
    · exact lv_lload_n C.1 C.2.1 hd hk (hL.2.2.2 _ _ hg) kk
    · exact lv_lload C.1 C.2.1 hd (hL.2.2.2 _ _ hg) kk
  · exact absurd h id
theorem so_loadA {i : Nat} (hd : (∃ k : Fin 4, (k : Nat) = i ∧ decode r.2.1 pc = .ok (.aload_n k, 1) ∧ nx = pc + 1) ∨ (decode r.2.1 pc = .ok (.aload i, 2) ∧ nx = pc + 2)) (h : ao_loadA i nx B al st m K) (hK : am_KR r K Q) : am_Run B r pc al st m Q := by
  unfold ao_loadA at h
  split at h
  · rename_i x hg
    refine so_step (st' := .ref x :: st) ?_ (hK _ _ _ _ _ h)
    intro p l e R s mid args below meth c H locs cells slots Qs ls b h0 Ln xs D aC C hH hS hL hR kk
    rcases hd with ⟨k, hk, hd, rfl⟩ | ⟨hd, rfl⟩
    · exact lv_aload_n C.1 C.2.1 hd hk (hL.2.2.2 _ _ hg) kk
    · exact lv_aload C.1 C.2.1 hd (hL.2.2.2 _ _ hg) kk
  · exact absurd h id
theorem so_storeI {i : Nat} (hd : (∃ k : Fin 4, (k : Nat) = i ∧ decode r.2.1 pc = .ok (.istore_n k, 1) ∧ nx = pc + 1) ∨ (decode r.2.1 pc = .ok (.istore i, 2) ∧ nx = pc + 2)) (h : ao_storeI i nx B al st m K) (hK : am_KR r K Q) : am_Run B r pc al st m Q := by
  unfold ao_storeI at h
  split at h
  · rename_i x rr
    obtain ⟨hi, h⟩ := am_gd_e h
    refine so_loc (st' := rr) ?_ (hK _ _ _ _ _ h)
    intro p l e R s mid args below meth c H locs cells slots Qs ls b h0 Ln xs D aC C hL kk
    have hi : i < r.2.2.1 := by rw [← hL.2.2.1]; exact Nat.blt_eq.mp hi
    rcases hd with ⟨k, hk, hd, rfl⟩ | ⟨hd, rfl⟩
    · exact lv_istore_n C.1 C.2.1 hd hk hL.has hi rfl (fun ls' h' => kk ls' (am_Lv.of1 hL.2.2.1 h'))
    · exact lv_istore C.1 C.2.1 hd hL.has hi rfl (fun ls' h' => kk ls' (am_Lv.of1 hL.2.2.1 h'))
  · exact absurd h id
theorem so_storeA {i : Nat} (hd : (∃ k : Fin 4, (k : Nat) = i ∧ decode r.2.1 pc = .ok (.astore_n k, 1) ∧ nx = pc + 1) ∨ (decode r.2.1 pc = .ok (.astore i, 2) ∧ nx = pc + 2)) (h : ao_storeA i nx B al st m K) (hK : am_KR r K Q) : am_Run B r pc al st m Q := by
  unfold ao_storeA at h
  split at h
  · rename_i x rr
    obtain ⟨hi, h⟩ := am_gd_e h
    refine so_loc (st' := rr) ?_ (hK _ _ _ _ _ h)
    intro p l e R s mid args below meth c H locs cells slots Qs ls b h0 Ln xs D aC C hL kk
    have hi : i < r.2.2.1 := by rw [← hL.2.2.1]; exact Nat.blt_eq.mp hi
    rcases hd with ⟨k, hk, hd, rfl⟩ | ⟨hd, rfl⟩
    · exact lv_astore_n C.1 C.2.1 hd hk hL.has hi rfl (fun ls' h' => kk ls' (am_Lv.of1 (v := .ref x) hL.2.2.1 h'))
    · exact lv_astore C.1 C.2.1 hd hL.has hi rfl (fun ls' h' => kk ls' (am_Lv.of1 (v := .ref x) hL.2.2.1 h'))
  · exact absurd h id
theorem so_storeL {i : Nat} (hd : (∃ k : Fin 4, (k : Nat) = i ∧ decode r.2.1 pc = .ok (.lstore_n k, 1) ∧ nx = pc + 1) ∨ (decode r.2.1 pc = .ok (.lstore i, 2) ∧ nx = pc + 2)) (h : ao_storeL i nx B al st m K) (hK : am_KR r K Q) : am_Run B r pc al st m Q := by
  unfold ao_storeL at h
  split at h
  · rename_i x rr
    obtain ⟨hi, h⟩ := am_gd_e h
    refine so_loc (st' := rr) ?_ (hK _ _ _ _ _ h)
    intro p l e R s mid args below meth c H locs cells slots Qs ls b h0 Ln xs D aC C hL kk
    have hi : i + 1 < r.2.2.1 := by rw [← hL.2.2.1]; exact Nat.blt_eq.mp hi
    rcases hd with ⟨k, hk, hd, rfl⟩ | ⟨hd, rfl⟩
    · exact lv_lstore_n C.1 C.2.1 hd hk hL.has hi rfl (fun ls' h' => kk ls' (am_Lv.of2 hL.2.2.1 h'))
    · exact lv_lstore C.1 C.2.1 hd hL.has hi rfl (fun ls' h' => kk ls' (am_Lv.of2 hL.2.2.1 h'))
  · exact absurd h id
theorem am_lst_get {ad : Nat → Nat} {al : am_AL} {i : Nat} {v : Value} (h : am_get al i = some v) : ∃ k : Nat, (am_lst ad al)[k]? = some (i, am_rv ad v) := List.getElem?_of_mem (am_lst_mem.mpr ⟨v, h, rfl⟩)
theorem so_iinc {i : Nat} {n : Int} (hd : decode r.2.1 pc = .ok (.iinc i n, 3)) (hn : nx = pc + 3) (h : ao_iinc i n nx B al st m K) (hK : am_KR r K Q) : am_Run B r pc al st m Q := by
  unfold ao_iinc at h
  split at h
  · rename_i x hg
    obtain ⟨hi, h⟩ := am_gd_e h
    refine so_loc (st' := st) ?_ (hK _ _ _ _ _ h)
    intro p l e R s mid args below meth c H locs cells slots Qs ls b h0 Ln xs D aC C hL kk
    have hi : i < r.2.2.1 := by rw [← hL.2.2.1]; exact Nat.blt_eq.mp hi
    obtain ⟨k, hk⟩ := am_lst_get (ad := am_ad b h0) hg
    subst hn
    exact lv_iinc C.1 C.2.1 hd hL.has hk rfl hi rfl (fun ls' h' => kk ls' (am_Lv.of1 hL.2.2.1 h'))
  · exact absurd h id
theorem so_push {v : Value} (row : ∀ {p : Program} {l : Launch} {e : Env} {R : Room} {s : State} {mid : MethodId} {args : Array Value} {below : List Frame} {meth : Method} {c : Code} {H : Heap} {locs : List Loc} {cells slots : Nat} {Qs : State → Prop} {ls : Array Slot} {rest : List Value}, p.tables.exec = Jvm.exec → c.code = r.2.1 → s.vm.findClass (am_cn r.2.2.2.2.1) = some mid.cls → (∀ w ∈ lw_all, w.before args s = true) → W p l e R s mid args below meth c H locs cells slots Qs (F0 mid nx ls (v :: rest)) → W p l e R s mid args below meth c H locs cells slots Qs (F0 mid pc ls rest))
    (hv : ∀ ad, am_rv ad v = v) (h : ao_push v nx B al st m K) (hK : am_KR r K Q) : am_Run B r pc al st m Q := by
  refine so_step (st' := v :: st) ?_ (hK _ _ _ _ _ h)
  intro p l e R s mid args below meth c H locs cells slots Qs ls b h0 Ln xs D aC C hH hS hL hR kk
  refine row C.1 C.2.1 C.2.2.2.1 C.2.2.2.2.1 ?_
  have kk : W p l e R s mid args below meth c H locs cells slots Qs (F0 mid nx ls (am_rv (am_ad b h0) v :: st.map (am_rv (am_ad b h0)))) := kk
  rw [hv] at kk
  exact kk
theorem so_bin {f : Int32 → Int32 → Int32} (row : ∀ {p : Program} {l : Launch} {e : Env} {R : Room} {s : State} {mid : MethodId} {args : Array Value} {below : List Frame} {meth : Method} {c : Code} {H : Heap} {locs : List Loc} {cells slots : Nat} {Qs : State → Prop} {ls : Array Slot} {rest : List Value} {x y : Int32}, p.tables.exec = Jvm.exec → c.code = r.2.1 → W p l e R s mid args below meth c H locs cells slots Qs (F0 mid nx ls (.int (f x y) :: rest)) → W p l e R s mid args below meth c H locs cells slots Qs (F0 mid pc ls (.int y :: .int x :: rest)))
    (h : ao_bin f nx B al st m K) (hK : am_KR r K Q) : am_Run B r pc al st m Q := by
  unfold ao_bin at h
  split at h
  · rename_i y x rr
    refine so_step (st' := .int (f x y) :: rr) ?_ (hK _ _ _ _ _ h)
    intro p l e R s mid args below meth c H locs cells slots Qs ls b h0 Ln xs D aC C hH hS hL hR kk
    exact row C.1 C.2.1 kk
  · exact absurd h id
theorem so_irem (hd : decode r.2.1 pc = .ok (.irem, 1)) (hn : nx = pc + 1) (h : ao_irem nx B al st m K) (hK : am_KR r K Q) : am_Run B r pc al st m Q := by
  unfold ao_irem at h
  split at h
  · rename_i y x rr
    refine so_step (st' := .int (x - x / y * y) :: rr) ?_ (hK _ _ _ _ _ h.2)
    intro p l e R s mid args below meth c H locs cells slots Qs ls b h0 Ln xs D aC C hH hS hL hR kk
    subst hn
    exact lv_irem C.1 C.2.1 hd h.1 kk
  · exact absurd h id
theorem so_un {f : Int32 → Int32} (row : ∀ {p : Program} {l : Launch} {e : Env} {R : Room} {s : State} {mid : MethodId} {args : Array Value} {below : List Frame} {meth : Method} {c : Code} {H : Heap} {locs : List Loc} {cells slots : Nat} {Qs : State → Prop} {ls : Array Slot} {rest : List Value} {x : Int32}, p.tables.exec = Jvm.exec → c.code = r.2.1 → W p l e R s mid args below meth c H locs cells slots Qs (F0 mid nx ls (.int (f x) :: rest)) → W p l e R s mid args below meth c H locs cells slots Qs (F0 mid pc ls (.int x :: rest)))
    (h : ao_un f nx B al st m K) (hK : am_KR r K Q) : am_Run B r pc al st m Q := by
  unfold ao_un at h
  split at h
  · rename_i x rr
    refine so_step (st' := .int (f x) :: rr) ?_ (hK _ _ _ _ _ h)
    intro p l e R s mid args below meth c H locs cells slots Qs ls b h0 Ln xs D aC C hH hS hL hR kk
    exact row C.1 C.2.1 kk
  · exact absurd h id
theorem so_binL {f : Int64 → Int64 → Int64} (row : ∀ {p : Program} {l : Launch} {e : Env} {R : Room} {s : State} {mid : MethodId} {args : Array Value} {below : List Frame} {meth : Method} {c : Code} {H : Heap} {locs : List Loc} {cells slots : Nat} {Qs : State → Prop} {ls : Array Slot} {rest : List Value} {x y : Int64}, p.tables.exec = Jvm.exec → c.code = r.2.1 → W p l e R s mid args below meth c H locs cells slots Qs (F0 mid nx ls (.long (f x y) :: rest)) → W p l e R s mid args below meth c H locs cells slots Qs (F0 mid pc ls (.long y :: .long x :: rest)))
    (h : ao_binL f nx B al st m K) (hK : am_KR r K Q) : am_Run B r pc al st m Q := by
  unfold ao_binL at h
  split at h
  · rename_i y x rr
    refine so_step (st' := .long (f x y) :: rr) ?_ (hK _ _ _ _ _ h)
    intro p l e R s mid args below meth c H locs cells slots Qs ls b h0 Ln xs D aC C hH hS hL hR kk
    exact row C.1 C.2.1 kk
  · exact absurd h id
theorem so_i2l (hd : decode r.2.1 pc = .ok (.i2l, 1)) (hn : nx = pc + 1) (h : ao_i2l nx B al st m K) (hK : am_KR r K Q) : am_Run B r pc al st m Q := by
  unfold ao_i2l at h
  split at h
  · rename_i x rr
    refine so_step (st' := .long x.toInt64 :: rr) ?_ (hK _ _ _ _ _ h)
    intro p l e R s mid args below meth c H locs cells slots Qs ls b h0 Ln xs D aC C hH hS hL hR kk
    subst hn
    exact lv_i2l C.1 C.2.1 hd rfl kk
  · exact absurd h id
theorem so_l2i (hd : decode r.2.1 pc = .ok (.l2i, 1)) (hn : nx = pc + 1) (h : ao_l2i nx B al st m K) (hK : am_KR r K Q) : am_Run B r pc al st m Q := by
  unfold ao_l2i at h
  split at h
  · rename_i x rr
    refine so_step (st' := .int x.toInt32 :: rr) ?_ (hK _ _ _ _ _ h)
    intro p l e R s mid args below meth c H locs cells slots Qs ls b h0 Ln xs D aC C hH hS hL hR kk
    subst hn
    exact lv_l2i C.1 C.2.1 hd rfl kk
  · exact absurd h id
theorem so_lcmp (hd : decode r.2.1 pc = .ok (.lcmp, 1)) (hn : nx = pc + 1) (h : ao_lcmp nx B al st m K) (hK : am_KR r K Q) : am_Run B r pc al st m Q := by
  unfold ao_lcmp at h
  split at h
  · rename_i y x rr
    refine so_step (st' := .int (lg_cmp x y) :: rr) ?_ (hK _ _ _ _ _ h)
    intro p l e R s mid args below meth c H locs cells slots Qs ls b h0 Ln xs D aC C hH hS hL hR kk
    subst hn
    exact W.lcmp C.1 C.2.1 hd kk
  · exact absurd h id
theorem am_c1_e {v : Value} (h : am_c1 v = true) (ad : Nat → Nat) : (am_rv ad v).category = 1 := by cases v <;> first | rfl | cases h
theorem so_dup (hd : decode r.2.1 pc = .ok (.dup, 1)) (hn : nx = pc + 1) (h : ao_dup nx B al st m K) (hK : am_KR r K Q) : am_Run B r pc al st m Q := by
  unfold ao_dup at h
  split at h
  · rename_i v rr
    obtain ⟨g, h⟩ := am_gd_e h
    refine so_step (st' := v :: v :: rr) ?_ (hK _ _ _ _ _ h)
    intro p l e R s mid args below meth c H locs cells slots Qs ls b h0 Ln xs D aC C hH hS hL hR kk
    subst hn
    exact lv_dup C.1 C.2.1 hd (am_c1_e g _) kk
  · exact absurd h id
theorem so_pop (hd : decode r.2.1 pc = .ok (.pop, 1)) (hn : nx = pc + 1) (h : ao_pop nx B al st m K) (hK : am_KR r K Q) : am_Run B r pc al st m Q := by
  unfold ao_pop at h
  split at h
  · rename_i v rr
    obtain ⟨g, h⟩ := am_gd_e h
    refine so_step (st' := rr) ?_ (hK _ _ _ _ _ h)
    intro p l e R s mid args below meth c H locs cells slots Qs ls b h0 Ln xs D aC C hH hS hL hR kk
    subst hn
    exact lv_pop C.1 C.2.1 hd (am_c1_e g _) kk
  · exact absurd h id
theorem so_dupx1 (hd : decode r.2.1 pc = .ok (.dup_x1, 1)) (hn : nx = pc + 1) (h : ao_dupx1 nx B al st m K) (hK : am_KR r K Q) : am_Run B r pc al st m Q := by
  unfold ao_dupx1 at h
  split at h
  · rename_i v w rr
    obtain ⟨g, h⟩ := am_gd_e h
    simp only [Bool.and_eq_true] at g
    refine so_step (st' := v :: w :: v :: rr) ?_ (hK _ _ _ _ _ h)
    intro p l e R s mid args below meth c H locs cells slots Qs ls b h0 Ln xs D aC C hH hS hL hR kk
    subst hn
    exact lv_dup_x1 C.1 C.2.1 hd (am_c1_e g.1 _) (am_c1_e g.2 _) kk
  · exact absurd h id
theorem so_dup2 (hd : decode r.2.1 pc = .ok (.dup2, 1)) (hn : nx = pc + 1) (h : ao_dup2 nx B al st m K) (hK : am_KR r K Q) : am_Run B r pc al st m Q := by
  unfold ao_dup2 at h
  split at h
  · rename_i v w rr
    obtain ⟨g, h⟩ := am_gd_e h
    simp only [Bool.and_eq_true] at g
    refine so_step (st' := v :: w :: v :: w :: rr) ?_ (hK _ _ _ _ _ h)
    intro p l e R s mid args below meth c H locs cells slots Qs ls b h0 Ln xs D aC C hH hS hL hR kk
    subst hn
    exact lv_dup2_11 C.1 C.2.1 hd (am_c1_e g.1 _) (am_c1_e g.2 _) kk
  · exact absurd h id
theorem so_goto {off : Int} (hd : decode r.2.1 pc = .ok (.goto off, 3)) (ht : ts.map Int.ofNat = [(pc : Int) + off]) (h : ao_goto ts B al st m K) (hK : am_KR r K Q) : am_Run B r pc al st m Q := by
  unfold ao_goto at h
  split at h
  · rename_i t
    refine so_step (nx := t) (st' := st) ?_ (hK _ _ _ _ _ h)
    intro p l e R s mid args below meth c H locs cells slots Qs ls b h0 Ln xs D aC C hH hS hL hR kk
    exact lv_goto C.1 C.2.1 hd (List.head_eq_of_cons_eq ht).symm kk
  · exact absurd h id
/-- a branch -/
theorem so_br {c1 c2 : Prop} {t : Nat} {st' : am_ST} (row : ∀ {p : Program} {l : Launch} {e : Env} {R : Room} {s : State} {mid : MethodId} {args : Array Value} {below : List Frame} {meth : Method} {c : Code} {H : Heap} {locs : List Loc} {cells slots : Nat} {Qs : State → Prop} {ls : Array Slot} (b h0 : Nat), p.tables.exec = Jvm.exec → c.code = r.2.1 → (c1 → W p l e R s mid args below meth c H locs cells slots Qs (F0 mid t ls (st'.map (am_rv (am_ad b h0))))) → (c2 → W p l e R s mid args below meth c H locs cells slots Qs (F0 mid nx ls (st'.map (am_rv (am_ad b h0))))) → W p l e R s mid args below meth c H locs cells slots Qs (F0 mid pc ls (st.map (am_rv (am_ad b h0)))))
    (h1 : c1 → am_Run B r t al st' m Q) (h2 : c2 → am_Run B r nx al st' m Q) : am_Run B r pc al st m Q := by
  intro p l e R s mid args below meth c H locs cells slots Qs ls b h0 Ln xs D aC C hH hS hL hR hE
  exact row b h0 C.1 C.2.1 (fun q => h1 q p l e R s mid args below meth c H locs cells slots Qs ls b h0 Ln xs D aC C hH hS hL hR hE) (fun q => h2 q p l e R s mid args below meth c H locs cells slots Qs ls b h0 Ln xs D aC C hH hS hL hR hE)
theorem so_if1 {cc : Int32 → Prop} {off : Int} (ht : ts.map Int.ofNat = [(pc : Int) + off]) (row : ∀ {p : Program} {l : Launch} {e : Env} {R : Room} {s : State} {mid : MethodId} {args : Array Value} {below : List Frame} {meth : Method} {c : Code} {H : Heap} {locs : List Loc} {cells slots : Nat} {Qs : State → Prop} {ls : Array Slot} {rest : List Value} {x : Int32} {t : Nat}, p.tables.exec = Jvm.exec → c.code = r.2.1 → (pc : Int) + off = (t : Int) → (cc x → W p l e R s mid args below meth c H locs cells slots Qs (F0 mid t ls rest)) → (¬ cc x → W p l e R s mid args below meth c H locs cells slots Qs (F0 mid nx ls rest)) → W p l e R s mid args below meth c H locs cells slots Qs (F0 mid pc ls (.int x :: rest)))
    (h : ao_if1 cc ts nx B al st m K) (hK : am_KR r K Q) : am_Run B r pc al st m Q := by
  unfold ao_if1 at h
  split at h
  · rename_i t x rr
    exact so_br (c1 := cc x) (c2 := ¬ cc x) (t := t) (st' := rr) (fun b h0 hx hb k1 k2 => row hx hb (List.head_eq_of_cons_eq ht).symm k1 k2) (fun q => hK _ _ _ _ _ (h.1 q)) (fun q => hK _ _ _ _ _ (h.2 q))
  · exact absurd h id
theorem so_if1N {cc : Int32 → Prop} {off : Int} (ht : ts.map Int.ofNat = [(pc : Int) + off]) (row : ∀ {p : Program} {l : Launch} {e : Env} {R : Room} {s : State} {mid : MethodId} {args : Array Value} {below : List Frame} {meth : Method} {c : Code} {H : Heap} {locs : List Loc} {cells slots : Nat} {Qs : State → Prop} {ls : Array Slot} {rest : List Value} {x : Int32} {t : Nat}, p.tables.exec = Jvm.exec → c.code = r.2.1 → (pc : Int) + off = (t : Int) → (¬ cc x → W p l e R s mid args below meth c H locs cells slots Qs (F0 mid t ls rest)) → (cc x → W p l e R s mid args below meth c H locs cells slots Qs (F0 mid nx ls rest)) → W p l e R s mid args below meth c H locs cells slots Qs (F0 mid pc ls (.int x :: rest)))
    (h : ao_if1N cc ts nx B al st m K) (hK : am_KR r K Q) : am_Run B r pc al st m Q := by
  unfold ao_if1N at h
  split at h
  · rename_i t x rr
    exact so_br (c1 := ¬ cc x) (c2 := cc x) (t := t) (st' := rr) (fun b h0 hx hb k1 k2 => row hx hb (List.head_eq_of_cons_eq ht).symm k1 k2) (fun q => hK _ _ _ _ _ (h.2 q)) (fun q => hK _ _ _ _ _ (h.1 q))
  · exact absurd h id
theorem so_if2 {cc : Int32 → Int32 → Prop} {off : Int} (ht : ts.map Int.ofNat = [(pc : Int) + off]) (row : ∀ {p : Program} {l : Launch} {e : Env} {R : Room} {s : State} {mid : MethodId} {args : Array Value} {below : List Frame} {meth : Method} {c : Code} {H : Heap} {locs : List Loc} {cells slots : Nat} {Qs : State → Prop} {ls : Array Slot} {rest : List Value} {x y : Int32} {t : Nat}, p.tables.exec = Jvm.exec → c.code = r.2.1 → (pc : Int) + off = (t : Int) → (cc x y → W p l e R s mid args below meth c H locs cells slots Qs (F0 mid t ls rest)) → (¬ cc x y → W p l e R s mid args below meth c H locs cells slots Qs (F0 mid nx ls rest)) → W p l e R s mid args below meth c H locs cells slots Qs (F0 mid pc ls (.int y :: .int x :: rest)))
    (h : ao_if2 cc ts nx B al st m K) (hK : am_KR r K Q) : am_Run B r pc al st m Q := by
  unfold ao_if2 at h
  split at h
  · rename_i t y x rr
    exact so_br (c1 := cc x y) (c2 := ¬ cc x y) (t := t) (st' := rr) (fun b h0 hx hb k1 k2 => row hx hb (List.head_eq_of_cons_eq ht).symm k1 k2) (fun q => hK _ _ _ _ _ (h.1 q)) (fun q => hK _ _ _ _ _ (h.2 q))
  · exact absurd h id
theorem so_if2N {cc : Int32 → Int32 → Prop} {off : Int} (ht : ts.map Int.ofNat = [(pc : Int) + off]) (row : ∀ {p : Program} {l : Launch} {e : Env} {R : Room} {s : State} {mid : MethodId} {args : Array Value} {below : List Frame} {meth : Method} {c : Code} {H : Heap} {locs : List Loc} {cells slots : Nat} {Qs : State → Prop} {ls : Array Slot} {rest : List Value} {x y : Int32} {t : Nat}, p.tables.exec = Jvm.exec → c.code = r.2.1 → (pc : Int) + off = (t : Int) → (¬ cc x y → W p l e R s mid args below meth c H locs cells slots Qs (F0 mid t ls rest)) → (cc x y → W p l e R s mid args below meth c H locs cells slots Qs (F0 mid nx ls rest)) → W p l e R s mid args below meth c H locs cells slots Qs (F0 mid pc ls (.int y :: .int x :: rest)))
    (h : ao_if2N cc ts nx B al st m K) (hK : am_KR r K Q) : am_Run B r pc al st m Q := by
  unfold ao_if2N at h
  split at h
  · rename_i t y x rr
    exact so_br (c1 := ¬ cc x y) (c2 := cc x y) (t := t) (st' := rr) (fun b h0 hx hb k1 k2 => row hx hb (List.head_eq_of_cons_eq ht).symm k1 k2) (fun q => hK _ _ _ _ _ (h.2 q)) (fun q => hK _ _ _ _ _ (h.1 q))
  · exact absurd h id
end SO
