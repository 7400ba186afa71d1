/-! the meanings of instructions on cells -/
set_option maxRecDepth 100000
theorem am_ad_iff {b h0 x y : Nat} (hb : b < h0) : am_ad b h0 x = am_ad b h0 y ↔ x = y := by
  constructor
  · intro h
    cases x with
    | zero =>
      cases y with
      | zero => rfl
      | succ y => exact absurd (show b = h0 + y from h) (by omega)
    | succ x =>
      cases y with
      | zero => exact absurd (show h0 + x = b from h) (by omega)
      | succ y => exact am_ad_inj (Nat.succ_pos _) (Nat.succ_pos _) h
  · intro h; rw [h]
theorem am_sw_at {x : Int32} {K : Nat → Prop} : ∀ {ts : List Nat} {n : Int} {j t : Nat}, am_sw x n ts K → ts[j]? = some t → x.toInt = n + j → K t
  | [], _, _, _, _, h, _ => by cases h
  | u :: _, n, 0, t, h, ht, hx => by cases ht; exact h.1 (by omega)
  | u :: ts, n, j + 1, t, h, ht, hx => am_sw_at (ts := ts) (n := n + 1) (j := j) (t := t) h.2 ht (by omega)
theorem am_fv_at {ad : Nat → Nat} {m : am_Mem} {cj a k : Nat} (hk : k < am_nf cj) : ((List.range (am_nf cj)).map (am_fv ad m cj a))[k]? = some (am_fv ad m cj a k) := by
  rw [List.getElem?_map, List.getElem?_range hk]; rfl
theorem am_dflt : ∀ c, c < 10 → ∀ k, k < am_nf c → defaultValue (am_ty c k) = (match am_ty c k with | .int => Value.int 0 | _ => Value.null) := by decide +kernel
section SH
variable {B : am_Bd} {r : am_MR} {pc nx : Nat} {ts : List Nat} {al : am_AL} {st : am_ST} {m m' : am_Mem} {K : am_K} {Q : am_Q}
theorem so_ifA {off : Int} (hd : decode r.2.1 pc = .ok (.if_acmp .eq off, 3)) (hn : nx = pc + 3) (ht : ts.map Int.ofNat = [(pc : Int) + off]) (h : ao_ifA ts nx B al st m K) (hK : am_KR r K Q) : am_Run B r pc al st m Q := by
  unfold ao_ifA at h
  split at h
  · rename_i t y x rr
    intro p l e R s mid args below meth c H locs cells slots Qs ls b h0 Ln xs D aC C hH hS hL hR hE
    have hbh : b < h0 := C.2.2.2.2.2.2.2.2.2.2.2.1
    subst hn
    refine lv_acmp_eq (rx := some (am_ad b h0 x)) (ry := some (am_ad b h0 y)) C.1 C.2.1 hd (List.head_eq_of_cons_eq ht).symm (fun q => ?_) (fun q => ?_)
    · exact hK _ _ _ _ _ (h.1 ((am_ad_iff hbh).mp (Option.some.inj q))) p l e R s mid args below meth c H locs cells slots Qs ls b h0 Ln xs D aC C hH hS hL hR hE
    · exact hK _ _ _ _ _ (h.2 (fun z => q (by rw [z]))) p l e R s mid args below meth c H locs cells slots Qs ls b h0 Ln xs D aC C hH hS hL hR hE
  · exact absurd h id
theorem so_tsw {dflt lo hi : Int} {offs : Array Int} {len : Nat} (hd : decode r.2.1 pc = .ok (.tableswitch dflt lo hi offs, len)) (ht : ts.map Int.ofNat = ((pc : Int) + dflt) :: offs.toList.map (fun o => (pc : Int) + o)) (h : ao_tsw lo hi ts B al st m K) (hK : am_KR r K Q) : am_Run B r pc al st m Q := by
  unfold ao_tsw at h
  split at h
  · rename_i d ts x rr
    obtain ⟨g, h1, h2⟩ := am_gd_e h
    have g : (ts.length : Int) = hi - lo + 1 := of_decide_eq_true g
    have e0 : (d : Int) = (pc : Int) + dflt := List.head_eq_of_cons_eq ht
    have e1 : ts.map Int.ofNat = offs.toList.map (fun o => (pc : Int) + o) := List.tail_eq_of_cons_eq ht
    by_cases hout : x.toInt < lo ∨ hi < x.toInt
    · refine so_step (nx := d) (st' := rr) ?_ (hK _ _ _ _ _ (h1 hout))
      intro p l e R s mid args below meth c H locs cells slots Qs ls b h0 Ln xs D aC C hH hS hL hR kk
      exact lv_tableOut C.1 C.2.1 hd hout e0.symm kk
    · have n1 : ¬ x.toInt < lo := fun q => hout (Or.inl q)
      have n2 : ¬ hi < x.toInt := fun q => hout (Or.inr q)
      have hj : (x.toInt - lo).toNat < ts.length := by omega
      obtain ⟨t, htj⟩ : ∃ t, ts[(x.toInt - lo).toNat]? = some t := ⟨_, List.getElem?_eq_getElem hj⟩
      have e2 : (ts.map Int.ofNat)[(x.toInt - lo).toNat]? = some (t : Int) := by rw [List.getElem?_map, htj]; rfl
      rw [e1, List.getElem?_map] at e2
      cases ho : offs.toList[(x.toInt - lo).toNat]? with
      | none => rw [ho] at e2; cases e2
      | some off =>
        rw [ho] at e2
        have e2 : (pc : Int) + off = (t : Int) := Option.some.inj e2
        refine so_step (nx := t) (st' := rr) ?_ (hK _ _ _ _ _ (am_sw_at h2 htj (by omega)))
        intro p l e R s mid args below meth c H locs cells slots Qs ls b h0 Ln xs D aC C hH hS hL hR kk
        exact lv_tableIn C.1 C.2.1 hd n1 n2 (by rw [← Array.getElem?_toList]; exact ho) e2 kk
  · exact absurd h id
theorem so_getf1 {idx cj k a : Nat} {v : Value} {rr : am_ST} (hci : r.2.2.2.2.1 < 13) (hl : am_lk (am_fl r.2.2.2.2.1) idx = some (cj, k)) (hd : decode r.2.1 pc = .ok (.getfield idx, 3)) (hn : nx = pc + 3) (ht : m.2.2.2.1 a = .inl cj) (hv : ∀ ad, am_fv ad m cj a k = am_rv ad v) (h : am_Run B r nx al (v :: rr) m Q) : am_Run B r pc al (.ref a :: rr) m Q := by
  obtain ⟨f1, f2, f3⟩ := am_fl_ok _ hci _ (am_lk_mem hl)
  refine so_step (st' := v :: rr) ?_ h
  intro p l e R s mid args below meth c H locs cells slots Qs ls b h0 Ln xs D aC C hH hS hL hR kk
  subst hn
  exact va_get (D := D) (cl := am_cl) (tys := am_tys aC) (ci := cj) (C := am_cn cj) (T := am_T cj) (N := am_nf cj) (ref := am_cn cj) C.1 C.2.1 C.2.2.2.2.1 (am_in cj f2) C.2.2.2.1 C.2.2.2.2.2.2.2.2.1 (hH.obj ht) 0 rfl (am_cl_at cj f2) k f3 (C.2.2.2.2.1 _ f1) (fun x hx => by rw [am_own cj f2 k] at hx; exact hx) (by rw [am_fv_at f3, hv]) hd kk
theorem so_getf {idx : Nat} (hci : r.2.2.2.2.1 < 13) (hd : decode r.2.1 pc = .ok (.getfield idx, 3)) (hn : nx = pc + 3) (h : ao_getf r.2.2.2.2.1 idx nx B al st m K) (hK : am_KR r K Q) : am_Run B r pc al st m Q := by
  unfold ao_getf at h
  split at h
  · rename_i cj k a rr hl
    obtain ⟨g, h⟩ := am_gd_e h
    have ht := am_isO_e g
    split at h
    · rename_i hty
      exact so_getf1 hci hl hd hn ht (v := .int (m.1 a k)) (fun ad => by unfold am_fv; rw [hty]; rfl) (hK _ _ _ _ _ h)
    · rename_i ty hty
      obtain ⟨b', hb', h⟩ := am_bR_e h
      exact so_getf1 hci hl hd hn ht (v := .ref b') (fun ad => by unfold am_fv; rw [hty, hb']; rfl) (hK _ _ _ _ _ h)
    · rename_i ty hty
      obtain ⟨b', hb', h⟩ := am_bR_e h
      exact so_getf1 hci hl hd hn ht (v := .ref b') (fun ad => by unfold am_fv; rw [hty, hb']; rfl) (hK _ _ _ _ _ h)
    · exact absurd h id
  · exact absurd h id
/-- a field is set: the cell that comes of it -/
theorem am_put_cell {ad : Nat → Nat} {aC : Nat → ClassId} {cj k a : Nat} {v : Value} (ht : m'.2.2.2.1 a = .inl cj) (hk : am_fv ad m' cj a k = v) (ho : ∀ j, j ≠ k → am_fv ad m' cj a j = am_fv ad m cj a j) : am_cell ad aC m' a = .inr (cj, ((List.range (am_nf cj)).map (am_fv ad m cj a)).set k v) := by
  unfold am_cell
  rw [ht]
  show Sum.inr (cj, _) = Sum.inr (cj, _)
  congr 2
  apply List.ext_getElem?
  intro j
  rw [List.getElem?_set]
  by_cases e : k = j
  · subst e
    rw [if_pos rfl]
    by_cases hl : k < am_nf cj
    · rw [am_fv_at hl, hk]
      simp [hl]
    · simp [hl]
  · rw [if_neg e, List.getElem?_map, List.getElem?_map]
    cases hj : (List.range (am_nf cj))[j]? with
    | none => rfl
    | some i =>
      have hi : i = j := by
        have := List.getElem?_eq_some_iff.mp hj
        obtain ⟨h1, h2⟩ := this
        rw [← h2]; simp
      subst hi
      show some _ = some _
      rw [ho i (fun q => e q.symm)]
theorem so_putf1 {idx cj k a : Nat} {v : Value} {rr : am_ST} (hci : r.2.2.2.2.1 < 13) (hl : am_lk (am_fl r.2.2.2.2.1) idx = some (cj, k)) (hd : decode r.2.1 pc = .ok (.putfield idx, 3)) (hn : nx = pc + 3) (ht : m.2.2.2.1 a = .inl cj) (hf : ((am_T cj) k).2.2.2 = false ∨ (((am_T cj) k).2.2.2 = true ∧ r.1.name = "<init>" ∧ cj = r.2.2.2.2.1))
    (hnf : ∀ ad, narrow (am_ty cj k) (am_rv ad v) = am_rv ad v ∧ fits (am_ty cj k) (am_rv ad v) = true) (hm : m'.2.2.2 = m.2.2.2) (hcell : ∀ ad, am_fv ad m' cj a k = am_rv ad v ∧ ∀ j, j ≠ k → am_fv ad m' cj a j = am_fv ad m cj a j) (ho : ∀ c, c ≠ a → m'.1 c = m.1 c ∧ m'.2.1 c = m.2.1 c ∧ m'.2.2.1 c = m.2.2.1 c)
    (h : am_Run B r nx al rr m' Q) : am_Run B r pc al (v :: .ref a :: rr) m Q := by
  obtain ⟨f1, f2, f3⟩ := am_fl_ok _ hci _ (am_lk_mem hl)
  have f1 : Cond.fieldLink (am_cn r.2.2.2.2.1) idx (am_cn cj) ((am_T cj) k).2.1 ((am_T cj) k).2.2.1 ∈ lw_all := f1
  have f2 : cj < 10 := f2
  have f3 : k < am_nf cj := f3
  intro p l e R s mid args below meth c H locs cells slots Qs ls b h0 Ln xs D aC C hH hS hL hR hE
  have hts := C.2.2.2.2.1
  have hown := C.2.2.2.1
  have hK := C.2.2.2.2.2.2.2.2.1
  have hP := hH.obj ht
  have hc := am_cl_at cj f2
  obtain ⟨hpos, hle, -⟩ := hH.objIn ht
  have hap := va_apart (own := am_cn r.2.2.2.2.1) hts (am_in cj f2) (am_ty cj) (am_ty_ok cj f2) (am_nm cj f2) hK hc
  obtain ⟨r0, h1, cell, q1, q2, q3, q4⟩ := hP 0 _ rfl
  have hr0 : r0 = (am_cn cj, am_T cj, am_nf cj) := Option.some.inj (h1.symm.trans hc)
  subst hr0
  obtain ⟨hSl, hfc, kC, hkC, hkind⟩ := hK.1 cj _ hc
  obtain ⟨cf, kf, fi, f, hi, hsl⟩ := hSl k f3
  have hsame : s.fieldFound? (am_cn cj) ((am_T cj) k).2.1 ((am_T cj) k).2.2.1 = some (cf, kf, fi, f) := by rw [am_own cj f2 k] at hi; exact hi
  have hst := (u_facts hfc hkC (u_lays hts (am_in cj f2) f3) hi).1
  have hlay := hts _ (am_in cj f2 _ (u_in_lay f3))
  unfold u_lay at hlay
  obtain ⟨hnar, hfit⟩ := hnf (am_ad b h0)
  have fin : ∀ (H' : Heap) (sl : Nat), H'[am_ad b h0 a]? = some (cell.setSlot (D.2 cj k) (am_rv (am_ad b h0) v)) → H'.size = H.size → (∀ q, q ≠ am_ad b h0 a → H'[q]? = H[q]?) → W p l e R s mid args below meth c H' (locs ++ [⟨am_ad b h0 a, sl⟩]) cells slots Qs (F0 mid nx ls (rr.map (am_rv (am_ad b h0)))) := by
    intro H' sl e1 e2 e3
    refine h p l e R s mid args below meth c H' _ cells slots Qs ls b h0 Ln xs D aC C (hH.set hpos hm ho ?_ e2 e3) (hS.put e2 e3 (am_ad_ge hpos)) hL hR hE
    rw [am_put_cell (m := m) (by rw [hm]; exact ht) (hcell _).1 (hcell _).2]
    refine ⟨_, hc, t_OB.to (V := updV (vp_V ((List.range (am_nf cj)).map (am_fv (am_ad b h0) m cj a))) k (am_rv (am_ad b h0) v)) ⟨_, e1, q2, q3, t_set q4 hap f3 _⟩ (fun j _ => vp_updV_set (by simp; exact f3) _ j)⟩
  subst hn
  rcases hf with hfin | ⟨hfin, hin, hcc⟩
  · rw [if_neg (by rw [hfin]; decide)] at hlay
    have h6 := u_store hfc hkC hkind hlay hi (am_ty_ok cj f2 k f3) hnar hfit
    refine W.putK C.1 C.2.1 (f := f) ⟨hown, hts _ f1, ⟨_, _, _, hsame⟩, hst⟩ (by rw [q2]; exact h6) q1 q3 (by rw [hsl]; exact k2_hasslot (q4 k f3)) rfl rfl hd fun H' e1 e2 e3 => ?_
    rw [hsl] at e1
    exact fin H' _ e1 e2 e3
  · rw [if_pos hfin] at hlay
    have hcf : mid.cls = cf := by
      obtain ⟨_, _, c', _, _, _, -, -, hf', -, -, -, hown2, -⟩ := Cond.laysFinal_spec hlay
      have e1 : c' = cf := by have := hi.symm.trans hf'; simp at this; exact this.1.symm
      rw [am_own cj f2 k, hcc] at hown2
      rw [← e1]; exact Option.some.inj (hown.symm.trans hown2)
    have h6 := u_fits hfc hkC hkind (Or.inr hlay) hi (am_ty_ok cj f2 k f3) hnar hfit
    refine W.putFinK C.1 C.2.1 hown (hts _ f1) hsame hst hcf (C.2.2.2.2.2.2.2.1.trans hin) (by rw [q2]; exact h6) q1 q3 (by rw [hsl]; exact k2_hasslot (q4 k f3)) rfl rfl hd fun H' e1 e2 e3 => ?_
    rw [hsl] at e1
    exact fin H' _ e1 e2 e3
theorem am_up2_o {M : Nat → Nat → Int32} {a i c : Nat} {x : Int32} (h : c ≠ a) : am_up2 M a i x c = M c := by unfold am_up2 am_upC; rw [if_neg h]
theorem am_up2_s {M : Nat → Nat → Int32} {a i : Nat} {x : Int32} : am_up2 M a i x a = upd (M a) i x := by unfold am_up2 am_upC; rw [if_pos rfl]
theorem am_upL_o {M : Nat → Nat → Int64} {a i c : Nat} {x : Int64} (h : c ≠ a) : am_upL M a i x c = M c := by unfold am_upL am_upC; rw [if_neg h]
theorem am_upL_s {M : Nat → Nat → Int64} {a i : Nat} {x : Int64} : am_upL M a i x a = vp_updL (M a) i x := by unfold am_upL am_upC; rw [if_pos rfl]
theorem am_upR_o {M : Nat → Nat → Option Nat} {a i c : Nat} {x : Option Nat} (h : c ≠ a) : am_upR M a i x c = M c := by unfold am_upR am_upC; rw [if_neg h]
theorem am_upR_s {M : Nat → Nat → Option Nat} {a i : Nat} {x : Option Nat} : am_upR M a i x a = va_up (M a) i x := by unfold am_upR am_upC; rw [if_pos rfl]
theorem am_fin_e {isI : Bool} {r : am_MR} {cj k : Nat} (hI : isI = decide (r.1.name = "<init>")) (h : (!((am_T cj) k).2.2.2 || (isI && Nat.beq cj r.2.2.2.2.1)) = true) : ((am_T cj) k).2.2.2 = false ∨ (((am_T cj) k).2.2.2 = true ∧ r.1.name = "<init>" ∧ cj = r.2.2.2.2.1) := by
  cases hb : ((am_T cj) k).2.2.2 with
  | false => exact Or.inl rfl
  | true =>
    rw [hb] at h
    simp only [Bool.not_true, Bool.false_or, Bool.and_eq_true] at h
    rw [hI] at h
    exact Or.inr ⟨rfl, of_decide_eq_true h.1, Nat.eq_of_beq_eq_true h.2⟩
theorem so_putf {isI : Bool} {idx : Nat} (hI : isI = decide (r.1.name = "<init>")) (hci : r.2.2.2.2.1 < 13) (hd : decode r.2.1 pc = .ok (.putfield idx, 3)) (hn : nx = pc + 3) (h : ao_putf isI r.2.2.2.2.1 idx nx B al st m K) (hK : am_KR r K Q) : am_Run B r pc al st m Q := by
  unfold ao_putf at h
  split at h
  · rename_i cj k v a rr hl
    obtain ⟨g, h⟩ := am_gd_e h
    simp only [Bool.and_eq_true] at g
    have ht := am_isO_e g.1
    have hf := am_fin_e hI g.2
    have refc : ∀ (b' : Nat) (ty : FieldType), am_ty cj k = ty → (∀ ad : Nat → Nat, narrow ty (.ref (ad b')) = .ref (ad b') ∧ fits ty (.ref (ad b')) = true) → ty ≠ .int → am_Run B r nx al rr (m.1, m.2.1, am_upR m.2.2.1 a k (some b'), m.2.2.2) Q → am_Run B r pc al (.ref b' :: .ref a :: rr) m Q := by
      intro b' ty hty hnf hne hrun
      refine so_putf1 (m' := (m.1, m.2.1, am_upR m.2.2.1 a k (some b'), m.2.2.2)) hci hl hd hn ht hf (v := .ref b') (fun ad => by rw [hty]; exact hnf ad) rfl (fun ad => ⟨?_, fun j hj => ?_⟩) (fun c hc => ⟨rfl, rfl, am_upR_o hc⟩) hrun
      · unfold am_fv
        rw [hty]
        cases ty <;> first | exact absurd rfl hne | (show va_rf ((am_upR m.2.2.1 a k (some b') a k).map ad) = _; rw [am_upR_s]; simp [va_up, va_rf, am_rv])
      · unfold am_fv
        split
        · rfl
        · show va_rf ((am_upR m.2.2.1 a k (some b') a j).map ad) = _
          rw [am_upR_s]
          simp [va_up, hj]
    split at h
    · rename_i x hty _
      refine so_putf1 (m' := (am_up2 m.1 a k x, m.2)) hci hl hd hn ht hf (v := .int x) (fun ad => by rw [hty]; exact ⟨rfl, rfl⟩) rfl (fun ad => ⟨?_, fun j hj => ?_⟩) (fun c hc => ⟨am_up2_o hc, rfl, rfl⟩) (hK _ _ _ _ _ h)
      · unfold am_fv
        rw [hty]
        show Value.int (am_up2 m.1 a k x a k) = _
        rw [am_up2_s]
        simp [upd, am_rv]
      · unfold am_fv
        split
        · show Value.int (am_up2 m.1 a k x a j) = _
          rw [am_up2_s]
          simp [upd, hj]
        · rfl
    · rename_i ct b' hty _
      exact refc b' _ hty (fun ad => ⟨rfl, rfl⟩) (fun q => by cases q) (hK _ _ _ _ _ h)
    · rename_i ct b' hty _
      exact refc b' _ hty (fun ad => ⟨rfl, rfl⟩) (fun q => by cases q) (hK _ _ _ _ _ h)
    · exact absurd h id
  · exact absurd h id
theorem am_tys_at {aC : Nat → ClassId} {t : Nat} (ht : t < 7) : (am_tys aC)[t]? = some (aC t, am_aty t) := by
  match t, ht with
  | 0, _ => rfl
  | 1, _ => rfl
  | 2, _ => rfl
  | 3, _ => rfl
  | 4, _ => rfl
  | 5, _ => rfl
  | 6, _ => rfl
theorem so_iald (hd : decode r.2.1 pc = .ok (.iaload, 1)) (hn : nx = pc + 1) (h : ao_iald nx B al st m K) (hK : am_KR r K Q) : am_Run B r pc al st m Q := by
  unfold ao_iald at h
  split at h
  · rename_i i a rr
    obtain ⟨g, hin, h⟩ := am_gd_e h
    refine so_step (st' := .int (m.1 a i.toNatClampNeg) :: rr) ?_ (hK _ _ _ _ _ h)
    intro p l e R s mid args below meth c H locs cells slots Qs ls b h0 Ln xs D aC C hH hS hL hR kk
    subst hn
    unfold am_isI at g
    simp only [Bool.or_eq_true] at g
    rcases g with g | g
    · exact va_iald (D := D) (cl := am_cl) C.1 C.2.1 C.2.2.2.2.2.2.2.2.1 (hH.arr (am_isA_e g) (by decide)) 0 0 (a := am_ad b h0 a) (n := am_len (m.2.2.2.1 a)) (f := m.1 a) rfl (am_tys_at (t := 0) (by decide)) hin hd kk
    · have hg := am_isA_e g
      have ha0 : a = 0 := by
        rcases Nat.eq_zero_or_pos a with z | z
        · exact z
        · by_cases hle : a ≤ m.2.2.2.2
          · exact absurd (hH.2.2.1.2.2.2 a 7 _ z hle hg) (by decide)
          · rw [hH.2.2.1.1 a (Nat.not_le.mp hle)] at hg
            cases hg
      subst ha0
      have hx : m.1 0 = xs := hH.2.2.2
      rw [hH.2.2.1.2.1] at hin
      have kk : W p l e R s mid args below meth c H locs cells slots Qs (F0 mid (pc + 1) ls (.int (m.1 0 i.toNatClampNeg) :: rr.map (am_rv (am_ad b h0)))) := kk
      rw [hx] at kk
      exact va_sld (A := fun q => h0 ≤ q) C.1 C.2.1 C.2.2.2.2.2.2.2.2.2.2.1 (Nat.lt_of_lt_of_le C.2.2.2.2.2.2.2.2.2.2.2.1 C.2.2.2.2.2.2.2.2.2.2.2.2) (Nat.not_le.mpr C.2.2.2.2.2.2.2.2.2.2.2.1) hS hin hd kk
  · exact absurd h id
theorem so_alen (hd : decode r.2.1 pc = .ok (.arraylength, 1)) (hn : nx = pc + 1) (h : ao_alen nx B al st m K) (hK : am_KR r K Q) : am_Run B r pc al st m Q := by
  unfold ao_alen at h
  split at h
  · rename_i a rr
    obtain ⟨g, h⟩ := am_gd_e h
    refine so_step (st' := .int (Int32.ofNat (am_len (m.2.2.2.1 a))) :: rr) ?_ (hK _ _ _ _ _ h)
    intro p l e R s mid args below meth c H locs cells slots Qs ls b h0 Ln xs D aC C hH hS hL hR kk
    subst hn
    unfold am_isI at g
    simp only [Bool.or_eq_true] at g
    rcases g with g | g
    · exact va_alen (D := D) (cl := am_cl) C.1 C.2.1 C.2.2.2.2.2.2.2.2.1 (hH.arr (am_isA_e g) (by decide)) 0 0 (a := am_ad b h0 a) rfl (am_tys_at (t := 0) (by decide)) rfl hd kk
    · have hg := am_isA_e g
      have ha0 : a = 0 := by
        rcases Nat.eq_zero_or_pos a with z | z
        · exact z
        · by_cases hle : a ≤ m.2.2.2.2
          · exact absurd (hH.2.2.1.2.2.2 a 7 _ z hle hg) (by decide)
          · rw [hH.2.2.1.1 a (Nat.not_le.mp hle)] at hg
            cases hg
      subst ha0
      have kk : W p l e R s mid args below meth c H locs cells slots Qs (F0 mid (pc + 1) ls (.int (Int32.ofNat (am_len (m.2.2.2.1 0))) :: rr.map (am_rv (am_ad b h0)))) := kk
      rw [hH.2.2.1.2.1] at kk
      exact va_slen (A := fun q => h0 ≤ q) C.1 C.2.1 C.2.2.2.2.2.2.2.2.2.2.1 (Nat.lt_of_lt_of_le C.2.2.2.2.2.2.2.2.2.2.2.1 C.2.2.2.2.2.2.2.2.2.2.2.2) (Nat.not_le.mpr C.2.2.2.2.2.2.2.2.2.2.2.1) hS hd kk
  · exact absurd h id
theorem so_bald (hd : decode r.2.1 pc = .ok (.baload, 1)) (hn : nx = pc + 1) (h : ao_bald nx B al st m K) (hK : am_KR r K Q) : am_Run B r pc al st m Q := by
  unfold ao_bald at h
  split at h
  · rename_i i a rr
    obtain ⟨g, hin, h⟩ := am_gd_e h
    refine so_step (st' := .int (m.1 a i.toNatClampNeg) :: rr) ?_ (hK _ _ _ _ _ h)
    intro p l e R s mid args below meth c H locs cells slots Qs ls b h0 Ln xs D aC C hH hS hL hR kk
    subst hn
    simp only [Bool.or_eq_true] at g
    rcases g with g | g
    · exact va_bald (D := D) (cl := am_cl) C.1 C.2.1 C.2.2.2.2.2.2.2.2.1 (hH.arr (am_isA_e g) (by decide)) 0 1 (a := am_ad b h0 a) (n := am_len (m.2.2.2.1 a)) (f := m.1 a) rfl (am_tys_at (t := 1) (by decide)) hin hd kk
    · exact va_zald (D := D) (cl := am_cl) C.1 C.2.1 C.2.2.2.2.2.2.2.2.1 (hH.arr (am_isA_e g) (by decide)) 0 4 (a := am_ad b h0 a) (n := am_len (m.2.2.2.1 a)) (f := m.1 a) rfl (am_tys_at (t := 4) (by decide)) hin hd kk
  · exact absurd h id
theorem so_sald (hd : decode r.2.1 pc = .ok (.saload, 1)) (hn : nx = pc + 1) (h : ao_sald nx B al st m K) (hK : am_KR r K Q) : am_Run B r pc al st m Q := by
  unfold ao_sald at h
  split at h
  · rename_i i a rr
    obtain ⟨g, hin, h⟩ := am_gd_e h
    refine so_step (st' := .int (m.1 a i.toNatClampNeg) :: rr) ?_ (hK _ _ _ _ _ h)
    intro p l e R s mid args below meth c H locs cells slots Qs ls b h0 Ln xs D aC C hH hS hL hR kk
    subst hn
    exact va_sald (D := D) (cl := am_cl) C.1 C.2.1 C.2.2.2.2.2.2.2.2.1 (hH.arr (am_isA_e g) (by decide)) 0 2 (a := am_ad b h0 a) (n := am_len (m.2.2.2.1 a)) (f := m.1 a) rfl (am_tys_at (t := 2) (by decide)) hin hd kk
  · exact absurd h id
theorem so_lald (hd : decode r.2.1 pc = .ok (.laload, 1)) (hn : nx = pc + 1) (h : ao_lald nx B al st m K) (hK : am_KR r K Q) : am_Run B r pc al st m Q := by
  unfold ao_lald at h
  split at h
  · rename_i i a rr
    obtain ⟨g, hin, h⟩ := am_gd_e h
    refine so_step (st' := .long (m.2.1 a i.toNatClampNeg) :: rr) ?_ (hK _ _ _ _ _ h)
    intro p l e R s mid args below meth c H locs cells slots Qs ls b h0 Ln xs D aC C hH hS hL hR kk
    subst hn
    exact va_lald (D := D) (cl := am_cl) C.1 C.2.1 C.2.2.2.2.2.2.2.2.1 (hH.arr (am_isA_e g) (by decide)) 0 3 (a := am_ad b h0 a) (n := am_len (m.2.2.2.1 a)) (f := m.2.1 a) rfl (am_tys_at (t := 3) (by decide)) hin hd kk
  · exact absurd h id
theorem so_aald (hd : decode r.2.1 pc = .ok (.aaload, 1)) (hn : nx = pc + 1) (h : ao_aald nx B al st m K) (hK : am_KR r K Q) : am_Run B r pc al st m Q := by
  unfold ao_aald at h
  split at h
  · rename_i i a rr
    obtain ⟨g, hin, h⟩ := am_gd_e h
    obtain ⟨b', hb', h⟩ := am_bR_e h
    refine so_step (st' := .ref b' :: rr) ?_ (hK _ _ _ _ _ h)
    intro p l e R s mid args below meth c H locs cells slots Qs ls b h0 Ln xs D aC C hH hS hL hR kk
    subst hn
    have kk : W p l e R s mid args below meth c H locs cells slots Qs (F0 mid (pc + 1) ls (va_rf ((m.2.2.1 a i.toNatClampNeg).map (am_ad b h0)) :: rr.map (am_rv (am_ad b h0)))) := by rw [hb']; exact kk
    simp only [Bool.or_eq_true] at g
    rcases g with g | g
    · exact va_aldq (D := D) (cl := am_cl) C.1 C.2.1 C.2.2.2.2.2.2.2.2.1 (hH.arr (am_isA_e g) (by decide)) 0 5 (a := am_ad b h0 a) (n := am_len (m.2.2.2.1 a)) (f := fun j => (m.2.2.1 a j).map (am_ad b h0)) rfl (am_tys_at (t := 5) (by decide)) hin hd kk
    · exact va_aldq (D := D) (cl := am_cl) C.1 C.2.1 C.2.2.2.2.2.2.2.2.1 (hH.arr (am_isA_e g) (by decide)) 0 6 (a := am_ad b h0 a) (n := am_len (m.2.2.2.1 a)) (f := fun j => (m.2.2.1 a j).map (am_ad b h0)) rfl (am_tys_at (t := 6) (by decide)) hin hd kk
  · exact absurd h id
end SH
