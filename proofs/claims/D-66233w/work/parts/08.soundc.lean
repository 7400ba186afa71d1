/-! the meanings of stores, new cells, calls and returns; the verification conditions give the run -/
set_option maxRecDepth 100000
theorem am_cell_arr {ad : Nat → Nat} {aC : Nat → ClassId} {m : am_Mem} {a t n : Nat} (ht : m.2.2.2.1 a = .inr (t, n)) : am_cell ad aC m a = .inl (aC t, n, am_cnt ad m t a) := by unfold am_cell; rw [ht]
section SC
variable {B : am_Bd} {r : am_MR} {pc nx : Nat} {ts : List Nat} {al : am_AL} {st : am_ST} {m m' : am_Mem} {K : am_K} {Q : am_Q}
theorem so_iast (hd : decode r.2.1 pc = .ok (.iastore, 1)) (hn : nx = pc + 1) (h : ao_iast nx B al st m K) (hK : am_KR r K Q) : am_Run B r pc al st m Q := by
  unfold ao_iast at h
  split at h
  · rename_i x i a rr
    obtain ⟨g, hin, h⟩ := am_gd_e h
    have ht := am_isA_e g
    intro p l e R s mid args below meth c H locs cells slots Qs ls b h0 Ln xs D aC C hH hS hL hR hE
    subst hn
    obtain ⟨hpos, hle⟩ := hH.arrIn ht (by decide)
    have hkt := (C.2.2.2.2.2.2.2.2.1).2 0 _ (am_tys_at (t := 0) (by decide))
    refine W.iast C.1 C.2.1 (hH.arr ht (by decide) 0 _ rfl) (hkt.1 (am_len (m.2.2.2.1 a)) (fun j => .int (m.1 a j))) (fun q => by cases q) (by show ¬ (i < 0 ∨ (arrV _ _ _).slots.size ≤ _); rw [arrV_size]; exact hin) rfl rfl hd fun H1 e1 z oq => ?_
    refine hK _ _ _ _ _ h p l e R s mid args below meth c H1 _ cells slots Qs ls b h0 Ln xs D aC C (hH.set (m' := (am_up2 m.1 a i.toNatClampNeg x, m.2)) hpos rfl (fun c hc => ⟨am_up2_o hc, rfl, rfl⟩) ?_ z oq) (hS.put z oq (am_ad_ge hpos)) hL hR hE
    have e1 : H1[am_ad b h0 a]? = some (Cell.setSlot (vp_cell (aC 0) (am_len (m.2.2.2.1 a), .inl (m.1 a))) i.toNatClampNeg (.int x)) := e1
    rw [am_cell_arr (m := (am_up2 m.1 a i.toNatClampNeg x, m.2)) ht]
    show H1[am_ad b h0 a]? = some (vp_cell _ (_, .inl (am_up2 m.1 a i.toNatClampNeg x a)))
    rw [e1, am_up2_s]
    rw [vp_cell_i, vp_cell_i, arrV_store]
    congr 2
    funext q
    by_cases hq : q = i.toNatClampNeg
    · subst hq
      simp [updV, upd]
    · simp [updV, upd, hq]
  · exact absurd h id
theorem so_bast (hd : decode r.2.1 pc = .ok (.bastore, 1)) (hn : nx = pc + 1) (h : ao_bast nx B al st m K) (hK : am_KR r K Q) : am_Run B r pc al st m Q := by
  unfold ao_bast at h
  split at h
  · rename_i x i a rr
    obtain ⟨g, hin, h⟩ := am_gd_e h
    intro p l e R s mid args below meth c H locs cells slots Qs ls b h0 Ln xs D aC C hH hS hL hR hE
    subst hn
    simp only [Bool.or_eq_true] at g
    rcases g with g | g
    · have ht := am_isA_e g
      have hb : am_bty (m.2.2.2.1 a) = .byte := by unfold am_bty; rw [g]; rfl
      rw [hb] at h
      obtain ⟨hpos, hle⟩ := hH.arrIn ht (by decide)
      have hkt := (C.2.2.2.2.2.2.2.2.1).2 1 _ (am_tys_at (t := 1) (by decide))
      refine W.bast C.1 C.2.1 (hH.arr ht (by decide) 0 _ rfl) (hkt.1 (am_len (m.2.2.2.1 a)) (fun j => .int (m.1 a j))) (fun q => by cases q) (by show ¬ (i < 0 ∨ (arrV _ _ _).slots.size ≤ _); rw [arrV_size]; exact hin) rfl rfl hd fun H1 e1 z oq => ?_
      refine hK _ _ _ _ _ h p l e R s mid args below meth c H1 _ cells slots Qs ls b h0 Ln xs D aC C (hH.set (m' := (am_up2 m.1 a i.toNatClampNeg (vp_nar .byte x), m.2)) hpos rfl (fun c hc => ⟨am_up2_o hc, rfl, rfl⟩) ?_ z oq) (hS.put z oq (am_ad_ge hpos)) hL hR hE
      have e1 : H1[am_ad b h0 a]? = some (Cell.setSlot (vp_cell (aC 1) (am_len (m.2.2.2.1 a), .inl (m.1 a))) i.toNatClampNeg (narrow .byte (.int x))) := e1
      rw [am_cell_arr (m := (am_up2 m.1 a i.toNatClampNeg (vp_nar .byte x), m.2)) ht]
      show H1[am_ad b h0 a]? = some (vp_cell _ (_, .inl (am_up2 m.1 a i.toNatClampNeg (vp_nar .byte x) a)))
      rw [e1, am_up2_s]
      rw [vp_cell_i, vp_cell_i, arrV_store]
      congr 2
      funext q
      by_cases hq : q = i.toNatClampNeg
      · subst hq
        simp [updV, upd, vp_nar]
        try rfl
      · simp [updV, upd, hq]
    · have ht := am_isA_e g
      have hb : am_bty (m.2.2.2.1 a) = .boolean := by unfold am_bty; rw [ht]; rfl
      rw [hb] at h
      obtain ⟨hpos, hle⟩ := hH.arrIn ht (by decide)
      have hkt := (C.2.2.2.2.2.2.2.2.1).2 4 _ (am_tys_at (t := 4) (by decide))
      refine W.zast C.1 C.2.1 (hH.arr ht (by decide) 0 _ rfl) (hkt.1 (am_len (m.2.2.2.1 a)) (fun j => .int (m.1 a j))) (fun q => by cases q) (by show ¬ (i < 0 ∨ (arrV _ _ _).slots.size ≤ _); rw [arrV_size]; exact hin) rfl rfl hd fun H1 e1 z oq => ?_
      refine hK _ _ _ _ _ h p l e R s mid args below meth c H1 _ cells slots Qs ls b h0 Ln xs D aC C (hH.set (m' := (am_up2 m.1 a i.toNatClampNeg (vp_nar .boolean x), m.2)) hpos rfl (fun c hc => ⟨am_up2_o hc, rfl, rfl⟩) ?_ z oq) (hS.put z oq (am_ad_ge hpos)) hL hR hE
      have e1 : H1[am_ad b h0 a]? = some (Cell.setSlot (vp_cell (aC 4) (am_len (m.2.2.2.1 a), .inl (m.1 a))) i.toNatClampNeg (narrow .boolean (.int x))) := e1
      rw [am_cell_arr (m := (am_up2 m.1 a i.toNatClampNeg (vp_nar .boolean x), m.2)) ht]
      show H1[am_ad b h0 a]? = some (vp_cell _ (_, .inl (am_up2 m.1 a i.toNatClampNeg (vp_nar .boolean x) a)))
      rw [e1, am_up2_s]
      rw [vp_cell_i, vp_cell_i, arrV_store]
      congr 2
      funext q
      by_cases hq : q = i.toNatClampNeg
      · subst hq
        simp [updV, upd, vp_nar]
        try rfl
      · simp [updV, upd, hq]
  · exact absurd h id
theorem so_sast (hd : decode r.2.1 pc = .ok (.sastore, 1)) (hn : nx = pc + 1) (h : ao_sast nx B al st m K) (hK : am_KR r K Q) : am_Run B r pc al st m Q := by
  unfold ao_sast at h
  split at h
  · rename_i x i a rr
    obtain ⟨g, hin, h⟩ := am_gd_e h
    have ht := am_isA_e g
    intro p l e R s mid args below meth c H locs cells slots Qs ls b h0 Ln xs D aC C hH hS hL hR hE
    subst hn
    obtain ⟨hpos, hle⟩ := hH.arrIn ht (by decide)
    have hkt := (C.2.2.2.2.2.2.2.2.1).2 2 _ (am_tys_at (t := 2) (by decide))
    refine W.sast C.1 C.2.1 (hH.arr ht (by decide) 0 _ rfl) (hkt.1 (am_len (m.2.2.2.1 a)) (fun j => .int (m.1 a j))) (fun q => by cases q) (by show ¬ (i < 0 ∨ (arrV _ _ _).slots.size ≤ _); rw [arrV_size]; exact hin) rfl rfl hd fun H1 e1 z oq => ?_
    refine hK _ _ _ _ _ h p l e R s mid args below meth c H1 _ cells slots Qs ls b h0 Ln xs D aC C (hH.set (m' := (am_up2 m.1 a i.toNatClampNeg (vp_nar .short x), m.2)) hpos rfl (fun c hc => ⟨am_up2_o hc, rfl, rfl⟩) ?_ z oq) (hS.put z oq (am_ad_ge hpos)) hL hR hE
    have e1 : H1[am_ad b h0 a]? = some (Cell.setSlot (vp_cell (aC 2) (am_len (m.2.2.2.1 a), .inl (m.1 a))) i.toNatClampNeg (narrow .short (.int x))) := e1
    rw [am_cell_arr (m := (am_up2 m.1 a i.toNatClampNeg (vp_nar .short x), m.2)) ht]
    show H1[am_ad b h0 a]? = some (vp_cell _ (_, .inl (am_up2 m.1 a i.toNatClampNeg (vp_nar .short x) a)))
    rw [e1, am_up2_s]
    rw [vp_cell_i, vp_cell_i, arrV_store]
    congr 2
    funext q
    by_cases hq : q = i.toNatClampNeg
    · subst hq
      simp [updV, upd, vp_nar]
      try rfl
    · simp [updV, upd, hq]
  · exact absurd h id
theorem so_last (hd : decode r.2.1 pc = .ok (.lastore, 1)) (hn : nx = pc + 1) (h : ao_last nx B al st m K) (hK : am_KR r K Q) : am_Run B r pc al st m Q := by
  unfold ao_last at h
  split at h
  · rename_i x i a rr
    obtain ⟨g, hin, h⟩ := am_gd_e h
    have ht := am_isA_e g
    intro p l e R s mid args below meth c H locs cells slots Qs ls b h0 Ln xs D aC C hH hS hL hR hE
    subst hn
    obtain ⟨hpos, hle⟩ := hH.arrIn ht (by decide)
    have hkt := (C.2.2.2.2.2.2.2.2.1).2 3 _ (am_tys_at (t := 3) (by decide))
    refine W.last C.1 C.2.1 (hH.arr ht (by decide) 0 _ rfl) (hkt.1 (am_len (m.2.2.2.1 a)) (fun j => .long (m.2.1 a j))) (fun q => by cases q) (by show ¬ (i < 0 ∨ (arrV _ _ _).slots.size ≤ _); rw [arrV_size]; exact hin) rfl rfl hd fun H1 e1 z oq => ?_
    refine hK _ _ _ _ _ h p l e R s mid args below meth c H1 _ cells slots Qs ls b h0 Ln xs D aC C (hH.set (m' := (m.1, am_upL m.2.1 a i.toNatClampNeg x, m.2.2)) hpos rfl (fun c hc => ⟨rfl, am_upL_o hc, rfl⟩) ?_ z oq) (hS.put z oq (am_ad_ge hpos)) hL hR hE
    have e1 : H1[am_ad b h0 a]? = some (Cell.setSlot (vp_cell (aC 3) (am_len (m.2.2.2.1 a), .inr (.inl (m.2.1 a)))) i.toNatClampNeg (.long x)) := e1
    rw [am_cell_arr (m := (m.1, am_upL m.2.1 a i.toNatClampNeg x, m.2.2)) ht]
    show H1[am_ad b h0 a]? = some (vp_cell _ (_, .inr (.inl (am_upL m.2.1 a i.toNatClampNeg x a))))
    rw [e1, am_upL_s]
    rw [vp_cell_l, vp_cell_l, arrV_store]
    congr 2
    funext q
    by_cases hq : q = i.toNatClampNeg
    · subst hq
      simp [updV, vp_updL]
    · simp [updV, vp_updL, hq]
  · exact absurd h id
theorem so_aast1 {t cj a x : Nat} {i : Int32} {rr : am_ST} (htj : (t = 5 ∧ cj = 9) ∨ (t = 6 ∧ cj = 4)) (hd : decode r.2.1 pc = .ok (.aastore, 1)) (hn : nx = pc + 1) (ht : m.2.2.2.1 a = .inr (t, am_len (m.2.2.2.1 a))) (hx : m.2.2.2.1 x = .inl cj) (hin : vp_in i (am_len (m.2.2.2.1 a))) (h : am_Run B r nx al rr (m.1, m.2.1, am_upR m.2.2.1 a i.toNatClampNeg (some x), m.2.2.2) Q) : am_Run B r pc al (.ref x :: .int i :: .ref a :: rr) m Q := by
  intro p l e R s mid args below meth c H locs cells slots Qs ls b h0 Ln xs D aC C hH hS hL hR hE
  subst hn
  have h7 : t < 7 := by rcases htj with ⟨q, -⟩ | ⟨q, -⟩ <;> omega
  obtain ⟨hpos, hle⟩ := hH.arrIn ht h7
  obtain ⟨-, -, hcj⟩ := hH.objIn hx
  have hK := C.2.2.2.2.2.2.2.2.1
  have hcnt : ∀ m0 : am_Mem, am_cnt (am_ad b h0) m0 t a = .inr (.inr (.inr (.inr (fun j => (m0.2.2.1 a j).map (am_ad b h0))))) := fun m0 => by rcases htj with ⟨rfl, -⟩ | ⟨rfl, -⟩ <;> rfl
  have hP := hH.arr ht h7 0 _ rfl
  rw [hcnt] at hP
  have hP : H[am_ad b h0 a]? = some (vp_cell (aC t) (am_len (m.2.2.2.1 a), .inr (.inr (.inr (.inr (fun j => (m.2.2.1 a j).map (am_ad b h0))))))) := hP
  obtain ⟨r', hr', cellV, g1, g2, g3, -⟩ := hH.obj hx 0 _ rfl
  have hcls := (hK.1 cj _ (am_cl_at cj hcj)).2
  have hra : va_RA s (aC t) (.object (am_cn cj)) := by
    have := (hK.2 t _ (am_tys_at h7)).2
    rcases htj with ⟨rfl, rfl⟩ | ⟨rfl, rfl⟩ <;> exact this
  obtain ⟨kA, comp, k1, k2, k3, -⟩ := hra
  have hcomp : comp = D.1 cj := Option.some.inj (k3.symm.trans hcls.1)
  subst hcomp
  obtain ⟨kC, hkC, -⟩ := hcls.2
  have hlt : i.toNatClampNeg < am_len (m.2.2.2.1 a) := Nat.not_le.mp fun q => hin (Or.inr q)
  refine W.aast C.1 C.2.1 hP (fun q h => by cases h) (fun h => by cases h) k1 k2 rfl hkC ⟨fun q => hin (Or.inl q), by show _ < (arrV _ _ _).slots.size; rw [arrV_size]; exact hlt⟩ g1 (fun q h => by rw [g3] at h; cases h) (by rw [g2]; exact hkC) (by rw [g2]; exact va_assign hcls) rfl rfl hd fun H1 e1 z oq => ?_
  refine h p l e R s mid args below meth c H1 _ cells slots Qs ls b h0 Ln xs D aC C (hH.set (m' := (m.1, m.2.1, am_upR m.2.2.1 a i.toNatClampNeg (some x), m.2.2.2)) hpos rfl (fun c hc => ⟨rfl, rfl, am_upR_o hc⟩) ?_ z oq) (hS.put z oq (am_ad_ge hpos)) hL hR hE
  rw [am_cell_arr (m := (m.1, m.2.1, am_upR m.2.2.1 a i.toNatClampNeg (some x), m.2.2.2)) ht, hcnt]
  show H1[am_ad b h0 a]? = some (vp_cell _ (_, .inr (.inr (.inr (.inr (fun j => (am_upR m.2.2.1 a i.toNatClampNeg (some x) a j).map (am_ad b h0)))))))
  rw [e1, am_upR_s]
  rw [vp_cell_q, vp_cell_q, arrV_store]
  congr 2
  funext q
  by_cases hq : q = i.toNatClampNeg
  · subst hq
    simp [updV, va_up, va_rf]
  · simp [updV, va_up, hq]
theorem so_aast (hd : decode r.2.1 pc = .ok (.aastore, 1)) (hn : nx = pc + 1) (h : ao_aast nx B al st m K) (hK : am_KR r K Q) : am_Run B r pc al st m Q := by
  unfold ao_aast at h
  split at h
  · rename_i x i a rr
    obtain ⟨g, hin, h⟩ := am_gd_e h
    simp only [Bool.or_eq_true, Bool.and_eq_true] at g
    rcases g with ⟨g1, g2⟩ | ⟨g1, g2⟩
    · exact so_aast1 (Or.inl ⟨rfl, rfl⟩) hd hn (am_isA_e g1) (am_isO_e g2) hin (hK _ _ _ _ _ h)
    · exact so_aast1 (Or.inr ⟨rfl, rfl⟩) hd hn (am_isA_e g1) (am_isO_e g2) hin (hK _ _ _ _ _ h)
  · exact absurd h id
/-! new cells -/
theorem so_new {idx : Nat} (hci : r.2.2.2.2.1 < 13) (hd : decode r.2.1 pc = .ok (.new idx, 3)) (hn : nx = pc + 3) (h : ao_new r.2.2.2.2.1 idx nx B al st m K) (hK : am_KR r K Q) : am_Run B r pc al st m Q := by
  unfold ao_new at h
  split at h
  · rename_i cj d kc ks hl
    obtain ⟨hks, h⟩ := h
    obtain ⟨f1, f2⟩ := am_nl_ok _ hci _ (am_lk_mem hl)
    have f2 : cj < 10 := f2
    intro p l e R s mid args below meth c H locs cells slots Qs ls b h0 Ln xs D aC C hH hS hL hR hE
    subst hn
    obtain ⟨r1, r2, r3, r4⟩ := hR
    have r3 : cells + (kc + 1) ≤ R.cells := r3
    have r4 : slots + ks ≤ R.slots := r4
    have hts := C.2.2.2.2.1
    have hKn := (C.2.2.2.2.2.2.2.2.1).1 cj _ (am_cl_at cj f2)
    refine W.newcK C.1 C.2.1 C.2.2.2.1 (hts _ f1) (hts _ (am_inst cj f2)) (hts _ (am_init cj f2)) rfl hd (by omega) (by omega) hKn.2.1 hH.2.1 fun H1 kC hkC e1 z1 o1 => ?_
    have hcell : va_at D am_cl (h0 + m.2.2.2.2, am_cell (am_ad b h0) aC (am_add m (.inl cj)) (m.2.2.2.2 + 1)) H1 := by
      have e : am_cell (am_ad b h0) aC (am_add m (.inl cj)) (m.2.2.2.2 + 1) = .inr (cj, (List.range (am_nf cj)).map (am_fv (am_ad b h0) (am_add m (.inl cj)) cj (m.2.2.2.2 + 1))) := by
        unfold am_cell
        have : (am_add m (.inl cj)).2.2.2.1 (m.2.2.2.2 + 1) = .inl cj := by
          show am_upC m.2.2.2.1 (m.2.2.2.2 + 1) (.inl cj) (m.2.2.2.2 + 1) = _
          unfold am_upC; rw [if_pos rfl]
        rw [this]
      rw [e]
      refine ⟨_, am_cl_at cj f2, (u_born (am_ty cj) hts (am_in cj f2) hKn hkC e1 (am_ty_ok cj f2)).to fun j hj => ?_⟩
      have hj : j < am_nf cj := hj
      rw [am_dflt cj f2 j hj]
      show _ = vp_V _ j
      unfold vp_V
      rw [List.getD_eq_getElem?_getD, am_fv_at hj]
      show _ = am_fv _ _ _ _ _
      unfold am_fv
      have z1 : (am_add m (.inl cj)).1 (m.2.2.2.2 + 1) = fun _ => 0 := by
        show am_upC m.1 (m.2.2.2.2 + 1) (fun _ => 0) (m.2.2.2.2 + 1) = _
        unfold am_upC; rw [if_pos rfl]
      have z2 : (am_add m (.inl cj)).2.2.1 (m.2.2.2.2 + 1) = fun _ => none := by
        show am_upC m.2.2.1 (m.2.2.2.2 + 1) (fun _ => none) (m.2.2.2.2 + 1) = _
        unfold am_upC; rw [if_pos rfl]
      rw [z1, z2]
      cases am_ty cj j <;> rfl
    have hH1 := hH.add (Or.inl ⟨cj, rfl, f2⟩) hcell (by rw [z1, hH.2.1]) (fun q hq => o1 q (by rw [← hH.2.1]; exact hq))
    have hS1 : va_S (fun q => h0 ≤ q) s.heap H1 locs := ⟨Nat.le_trans hS.1 (by rw [z1, hH.2.1]; omega), fun q g1 g2 => (o1 q (by rw [← hH.2.1]; exact Nat.lt_of_lt_of_le g1 hS.1)).trans (hS.2.1 q g1 g2), hS.2.2⟩
    refine hK _ _ _ _ _ h p l e R s mid args below meth c H1 locs (cells + 1) (slots + am_nf cj) Qs ls b h0 Ln xs D aC C hH1 hS1 hL ⟨r1, r2, ?_, ?_⟩ ?_
    · show cells + 1 + kc ≤ R.cells; omega
    · show slots + am_nf cj + (ks - am_nf cj) ≤ R.slots; omega
    · have e1 : cells + 1 + kc = cells + (kc + 1) := by omega
      have e2 : slots + am_nf cj + (ks - am_nf cj) = slots + ks := by omega
      show ∀ (v : Option Value) (m' : am_Mem) (H' : Heap) (locs' : List Loc) (pc' : Nat) (ls' : Array Slot), Q v m' → am_Hd b h0 Ln xs D aC m' H' → va_S (fun q => h0 ≤ q) s.heap H' locs' → am_rtn r pc' v → W p l e R s mid args below meth c H' locs' (cells + 1 + kc) (slots + am_nf cj + (ks - am_nf cj)) Qs (F0 mid pc' ls' ((v.map (am_rv (am_ad b h0))).toList))
      rw [e1, e2]
      exact hE
  · exact absurd h id
/-- behind a new array -/
theorem am_newa_go {d kc ks t N : Nat} {rr : am_ST} (ht7 : t < 7) {p : Program} {l : Launch} {e : Env} {R : Room} {s : State} {mid : MethodId} {args : Array Value} {below : List Frame} {meth : Method} {c : Code} {H H1 : Heap} {locs : List Loc} {cells slots : Nat} {Qs : State → Prop} {ls : Array Slot} {b h0 Ln : Nat} {xs : Nat → Int32} {D : va_G} {aC : Nat → ClassId}
    (C : am_Cx p s mid args meth c r b h0 Ln xs D aC) (hH : am_Hd b h0 Ln xs D aC m H) (hS : va_S (fun q => h0 ≤ q) s.heap H locs) (hL : am_Lv (am_ad b h0) ls r.2.2.1 al) (hR : am_Rm (d, kc + 1, ks) R cells slots) (hN : N ≤ ks)
    (hE : ∀ (v : Option Value) (m' : am_Mem) (H' : Heap) (locs' : List Loc) (pc' : Nat) (ls' : Array Slot), Q v m' → am_Hd b h0 Ln xs D aC m' H' → va_S (fun q => h0 ≤ q) s.heap H' locs' → am_rtn r pc' v → W p l e R s mid args below meth c H' locs' (cells + (kc + 1)) (slots + ks) Qs (F0 mid pc' ls' ((v.map (am_rv (am_ad b h0))).toList)))
    (e1 : H1[H.size]? = some (vp_cell (aC t) (N, am_cnt (am_ad b h0) (am_add m (.inr (t, N))) t (m.2.2.2.2 + 1)))) (z1 : H1.size = H.size + 1) (o1 : ∀ q, q < H.size → H1[q]? = H[q]?)
    (h : am_Run (d, kc, ks - N) r nx al (.ref (m.2.2.2.2 + 1) :: rr) (am_add m (.inr (t, N))) Q) : W p l e R s mid args below meth c H1 locs (cells + 1) (slots + N) Qs (F0 mid nx ls (.ref H.size :: rr.map (am_rv (am_ad b h0)))) := by
  obtain ⟨r1, r2, r3, r4⟩ := hR
  have r3 : cells + (kc + 1) ≤ R.cells := r3
  have r4 : slots + ks ≤ R.slots := r4
  have hcell : va_at D am_cl (h0 + m.2.2.2.2, am_cell (am_ad b h0) aC (am_add m (.inr (t, N))) (m.2.2.2.2 + 1)) H1 := by
    have : (am_add m (.inr (t, N))).2.2.2.1 (m.2.2.2.2 + 1) = .inr (t, N) := by
      show am_upC m.2.2.2.1 (m.2.2.2.2 + 1) (.inr (t, N)) (m.2.2.2.2 + 1) = _
      unfold am_upC; rw [if_pos rfl]
    rw [am_cell_arr this]
    show H1[h0 + m.2.2.2.2]? = _
    rw [← hH.2.1]
    exact e1
  have hH1 := hH.add (Or.inr ⟨t, N, rfl, ht7⟩) hcell z1 o1
  have hS1 : va_S (fun q => h0 ≤ q) s.heap H1 locs := ⟨Nat.le_trans hS.1 (by omega), fun q g1 g2 => (o1 q (Nat.lt_of_lt_of_le g1 hS.1)).trans (hS.2.1 q g1 g2), hS.2.2⟩
  have key := h p l e R s mid args below meth c H1 locs (cells + 1) (slots + N) Qs ls b h0 Ln xs D aC C hH1 hS1 hL ⟨r1, r2, by show cells + 1 + kc ≤ R.cells; omega, by show slots + N + (ks - N) ≤ R.slots; omega⟩ (by
    have e1 : cells + 1 + kc = cells + (kc + 1) := by omega
    have e2 : slots + N + (ks - N) = slots + ks := by omega
    show ∀ (v : Option Value) (m' : am_Mem) (H' : Heap) (locs' : List Loc) (pc' : Nat) (ls' : Array Slot), Q v m' → am_Hd b h0 Ln xs D aC m' H' → va_S (fun q => h0 ≤ q) s.heap H' locs' → am_rtn r pc' v → W p l e R s mid args below meth c H' locs' (cells + 1 + kc) (slots + N + (ks - N)) Qs (F0 mid pc' ls' ((v.map (am_rv (am_ad b h0))).toList))
    rw [e1, e2]
    exact hE)
  rw [hH.2.1]
  exact key
theorem so_newa {a : ArrayType} (hd : decode r.2.1 pc = .ok (.newarray a, 2)) (hn : nx = pc + 2) (h : ao_newa a nx B al st m K) (hK : am_KR r K Q) : am_Run B r pc al st m Q := by
  unfold ao_newa at h
  split at h
  · rename_i t n rr d kc ks hat
    obtain ⟨h1, h2, h3, h⟩ := h
    intro p l e R s mid args below meth c H locs cells slots Qs ls b h0 Ln xs D aC C hH hS hL hR hE
    subst hn
    have r3 : cells + (kc + 1) ≤ R.cells := hR.2.2.1
    have r4 : slots + ks ≤ R.slots := hR.2.2.2
    have hts := C.2.2.2.2.1
    have hKK := C.2.2.2.2.2.2.2.2.1
    have ht5 : t < 5 ∧ newarray.typeOf a = am_aty t ∧ componentBytes (am_aty t) ≤ 8 ∧ (∀ (m0 : am_Mem) (ad : Nat → Nat) (cA : ClassId) (q N : Nat), (m0.1 q = fun _ => 0) → (m0.2.1 q = fun _ => 0) → vp_cell cA (N, am_cnt ad m0 t q) = arrV cA N (fun _ => defaultValue (am_aty t))) := by
      cases a <;> first | (cases hat; done) | (cases hat; refine ⟨by decide, rfl, by decide, fun m0 ad cA q N z1 z2 => ?_⟩; first | (show vp_cell cA (N, .inl (m0.1 q)) = _; rw [z1]; rfl) | (show vp_cell cA (N, .inr (.inl (m0.2.1 q))) = _; rw [z2]; rfl))
    obtain ⟨ht5, hty, hcb, hcell⟩ := ht5
    refine va_newaK C.1 C.2.1 (by rw [hty]; exact hts _ (am_acl t ht5)) rfl hd rfl h1 rfl (by rw [hty]; exact Nat.le_trans (Nat.mul_le_mul h2 hcb) (by decide)) (by omega) (by omega) rfl fun H1 cA e1 z1 o1 hAr hNm => ?_
    have hcA : cA = aC t := by
      have h6 := (hKK.2 t _ (am_tys_at (by omega))).2
      have h6 : s.vm.findClass ("[" ++ (am_aty t).toString) = some (aC t) := by
        match t, ht5, h6 with
        | 0, _, h6 => exact h6
        | 1, _, h6 => exact h6
        | 2, _, h6 => exact h6
        | 3, _, h6 => exact h6
        | 4, _, h6 => exact h6
      rw [hty] at hNm
      exact Option.some.inj (hNm.symm.trans h6)
    rw [hcA, hty] at e1
    refine am_newa_go (t := t) (by omega) C hH hS hL hR h3 hE ?_ z1 o1 (hK _ _ _ _ _ h)
    rw [e1, hcell _ _ _ _ _ (by show am_upC m.1 (m.2.2.2.2 + 1) (fun _ => 0) (m.2.2.2.2 + 1) = _; unfold am_upC; rw [if_pos rfl]) (by show am_upC m.2.1 (m.2.2.2.2 + 1) (fun _ => 0) (m.2.2.2.2 + 1) = _; unfold am_upC; rw [if_pos rfl])]
  · exact absurd h id
theorem so_newq {idx : Nat} (hci : r.2.2.2.2.1 < 13) (hd : decode r.2.1 pc = .ok (.anewarray idx, 3)) (hn : nx = pc + 3) (h : ao_newq r.2.2.2.2.1 idx nx B al st m K) (hK : am_KR r K Q) : am_Run B r pc al st m Q := by
  unfold ao_newq at h
  split at h
  · rename_i cj n rr d kc ks hl
    obtain ⟨g, h1, h2, h3, h⟩ := am_gd_e h
    obtain ⟨f1, f2⟩ := am_nl_ok _ hci _ (am_lk_mem hl)
    intro p l e R s mid args below meth c H locs cells slots Qs ls b h0 Ln xs D aC C hH hS hL hR hE
    subst hn
    have r3 : cells + (kc + 1) ≤ R.cells := hR.2.2.1
    have r4 : slots + ks ≤ R.slots := hR.2.2.2
    have hts := C.2.2.2.2.1
    have hKK := C.2.2.2.2.2.2.2.2.1
    have hNW := C.2.2.2.2.2.2.2.2.2.1
    have key : ∀ t, (t = 5 ∧ cj = 9) ∨ (t = 6 ∧ cj = 4) → K (d, kc, ks - n.toNatClampNeg) (pc + 3) al (.ref (m.2.2.2.2 + 1) :: rr) (am_add m (.inr (t, n.toNatClampNeg))) → W p l e R s mid args below meth c H locs cells slots Qs (F0 mid pc ls ((Value.int n :: rr).map (am_rv (am_ad b h0)))) := by
      intro t htj h
      have h7 : t < 7 := by rcases htj with ⟨q, -⟩ | ⟨q, -⟩ <;> omega
      have hAO : va_AO (am_cn cj) s := by
        rcases htj with ⟨-, rfl⟩ | ⟨-, rfl⟩
        · exact hNW.2.1
        · exact hNW.2.2
      refine W.anew C.1 C.2.1 C.2.2.2.1 (hts _ f1) (va_AO.use hAO) rfl hd rfl h1 (by omega) (by omega) (by omega) fun cA kA comp g1 g2 g3 g4 => ?_
      have hcA : cA = aC t := by
        have h6 := (hKK.2 t _ (am_tys_at h7)).2
        have h6 : va_RA s (aC t) (.object (am_cn cj)) := by rcases htj with ⟨rfl, rfl⟩ | ⟨rfl, rfl⟩ <;> exact h6
        obtain ⟨kA', comp', -, -, -, h6⟩ := h6
        exact Option.some.inj (g1.symm.trans h6)
      subst hcA
      refine am_newa_go (t := t) h7 C hH hS hL hR h3 hE ?_ (by rw [Array.size_push]) (fun q hq => by rw [Array.getElem?_push, if_neg (Nat.ne_of_lt hq)]) (hK _ _ _ _ _ h)
      have hcnt : am_cnt (am_ad b h0) (am_add m (.inr (t, n.toNatClampNeg))) t (m.2.2.2.2 + 1) = .inr (.inr (.inr (.inr (fun _ => none)))) := by
        have z2 : (am_add m (.inr (t, n.toNatClampNeg))).2.2.1 (m.2.2.2.2 + 1) = fun _ => none := by
          show am_upC m.2.2.1 (m.2.2.2.2 + 1) (fun _ => none) (m.2.2.2.2 + 1) = _
          unfold am_upC; rw [if_pos rfl]
        unfold am_cnt
        rw [z2]
        rcases htj with ⟨rfl, -⟩ | ⟨rfl, -⟩ <;> rfl
      rw [hcnt, vp_cell_q, Array.getElem?_push_size, arrV_new]
      rfl
    simp only [Bool.or_eq_true] at g
    rcases g with g | g
    · have e9 := Nat.eq_of_beq_eq_true g
      subst e9
      exact key 5 (Or.inl ⟨rfl, rfl⟩) h
    · have e4 := Nat.eq_of_beq_eq_true g
      subst e4
      exact key 6 (Or.inr ⟨rfl, rfl⟩) h
  · exact absurd h id
end SC
