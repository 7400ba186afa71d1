/-! CONTRACTS of ApplyFree$Index: find, add -/
/-- chains of the keys Ks -/
def ix_I (M : wd_M) (Ks : List (List Int32)) : Prop := M 631 6 = nI Ks.length ∧ (∀ h, h < 4096 → M 632 h = ak_o (ix_lb (fun j => ix_hs (Ks.getD j []) == h) Ks.length)) ∧ (∀ j, j < Ks.length → M 633 j = ak_o (ix_lb (fun i => ix_hs (Ks.getD i []) == ix_hs (Ks.getD j [])) j))
/-- each key's first row has it -/
def ix_F (M : wd_M) (p w b f n : Nat) (Ks : List (List Int32)) : Prop := ∀ j q, Ks[j]? = some q → q.length = n ∧ ∃ i, M 634 j = nI i ∧ ix_key M 638 (p + i * w) b f q
section IX
variable {d : Nat} {z : wd_Z} {M : wd_M} {L : wd_L}
theorem ix_getD {Ks : List (List Int32)} {j : Nat} {q : List Int32} (h : Ks[j]? = some q) : Ks.getD j [] = q := by rw [List.getD_eq_getElem?_getD, h]; rfl
theorem ix_find_16 {a x2 b x4 p w bb f : Nat} {kx : List Int32} {Ks : List (List Int32)} {K : Int32 → wd_Z → wd_M → wd_L → Prop} (ho : ix_own z M p w bb f kx.length) (hI : ix_I M Ks) (hF : ix_F M p w bb f kx.length Ks) (hk : ix_key M a x2 b x4 kx) (hl : kx.length ≤ 256) (hKs : Ks.length ≤ 8192)
    (h1 : ∀ j, Ks[j]? = some kx → K (nI j) z M L) (h2 : kx ∉ Ks → K (-1) z M L) : ∀ (n m : Nat), m ≤ n → m ≤ Ks.length → (∀ j, m ≤ j → Ks[j]? ≠ some kx) →
    wRun (d + 1, 0, 0) mX7_find 16 [some (.ref 631), some (.ref a), some (.int (nI x2)), some (.ref b), some (.int (nI x4)), some (.int (ak_o (ix_lb (fun j => ix_hs (Ks.getD j []) == ix_hs kx) m)))] [] z M L (wQi K)
  | 0, m, hm, hmK, hno => by
    have em : m = 0 := by omega
    subst em
    refine fX7_find_16 ⟨fun _ => wQi_i (h2 fun hmem => ?_), fun q => absurd ak_m1 q⟩
    obtain ⟨j, hj⟩ := List.mem_iff_getElem?.mp hmem
    exact hno j (Nat.zero_le _) hj
  | n + 1, m, hm, hmK, hno => by
    cases e : ix_lb (fun j => ix_hs (Ks.getD j []) == ix_hs kx) m with
    | none =>
      refine fX7_find_16 ⟨fun _ => wQi_i (h2 fun hmem => ?_), fun q => absurd ak_m1 q⟩
      obtain ⟨j, hj⟩ := List.mem_iff_getElem?.mp hmem
      by_cases hjm : m ≤ j
      · exact hno j hjm hj
      · have := ix_lb_none e j (by omega)
        rw [ix_getD hj] at this
        simp at this
    | some j =>
      obtain ⟨j1, j2, j3⟩ := ix_lb_some e
      obtain ⟨q, hq⟩ := sl_idx (show j < Ks.length by omega)
      obtain ⟨ql, i, f1, f2⟩ := hF j q hq
      rw [ix_getD hq, beq_iff_eq] at j2
      refine fX7_find_16 ⟨fun q => absurd q (nI_pos (by omega)), fun _ => ?_⟩
      refine ix_isKey (j := j) (ky := q) ho (by omega) f1 rfl hk f2 ql hl ?_
      by_cases ek : kx = q
      · rw [if_pos ek]
        refine ⟨fun q => absurd q (by decide), fun _ => wQi_i (h1 j (by rw [hq, ek]))⟩
      · rw [if_neg ek]
        refine ⟨fun _ => ?_, fun q => absurd rfl q⟩
        have e33 := hI.2.2 j (by omega)
        rw [ix_getD hq, j2] at e33
        rw [show (ak_o (some j)).toNatClampNeg = j from nI_clamp (by omega), e33]
        refine ⟨vp_in_nI (by omega) (by omega), ix_find_16 ho hI hF hk hl hKs h1 h2 n j (by omega) (by omega) fun i hi he => ?_⟩
        by_cases hij : i = j
        · rw [hij, hq] at he
          exact ek (Option.some.inj he).symm
        · by_cases him : m ≤ i
          · exact hno i him he
          · have := j3 i (by omega) (by omega)
            rw [ix_getD he] at this
            simp at this
theorem ix_find {a x2 b x4 p w bb f : Nat} {kx : List Int32} {Ks : List (List Int32)} {K : Int32 → wd_Z → wd_M → wd_L → Prop} (hd : 1 ≤ d) (ho : ix_own z M p w bb f kx.length) (hI : ix_I M Ks) (hF : ix_F M p w bb f kx.length Ks) (hk : ix_key M a x2 b x4 kx) (hl : kx.length ≤ 256) (hKs : Ks.length ≤ 8192)
    (h1 : ∀ j, Ks[j]? = some kx → K (nI j) z M L) (h2 : kx ∉ Ks → K (-1) z M L) : wRunI (d, 0, 0) mX7_find [.ref 631, .ref a, .int (nI x2), .ref b, .int (nI x4)] z M L K := by
  obtain ⟨d, rfl, hd'⟩ := ak_deep hd
  refine fX7_find_e (ix_hash hk ho.2.2.2.2.2 hl ?_)
  have hh := (ix_hs_eq kx).2
  rw [nI_clamp (by omega), hI.2.1 _ hh]
  refine ⟨vp_in_nI hh (by omega), ix_find_16 ho hI hF hk hl hKs h1 h2 Ks.length Ks.length (Nat.le_refl _) (Nat.le_refl _) fun j hj he => ?_⟩
  rw [List.getElem?_eq_none hj] at he
  cases he
end IX
/-- the index over the first k rows of R, by the keys kf -/
def ix_kl (kf : ay_Row → List Int32) (R : List ay_Row) (k : Nat) : List (List Int32) := (R.take k).map kf
def ix_Ks (kf : ay_Row → List Int32) (R : List ay_Row) (k : Nat) : List (List Int32) := sm_once (ix_kl kf R k)
def ix_J (z : wd_Z) (M : wd_M) (p w b f n : Nat) (kf : ay_Row → List Int32) (R : List ay_Row) (k : Nat) : Prop :=
  ix_own z M p w b f n ∧ ix_I M (ix_Ks kf R k) ∧ (∀ i r, R[i]? = some r → ix_key M 638 (p + i * w) b f (kf r) ∧ (kf r).length = n) ∧
  (∀ j q, (ix_Ks kf R k)[j]? = some q → (∃ i, M 634 j = nI i ∧ (ix_kl kf R k)[i]? = some q ∧ ∀ i', i' < i → (ix_kl kf R k)[i']? ≠ some q) ∧ (∃ i, M 635 j = nI i ∧ (ix_kl kf R k)[i]? = some q ∧ ∀ i', i < i' → (ix_kl kf R k)[i']? ≠ some q) ∧ M 636 j = nI ((ix_kl kf R k).count q)) ∧
  (∀ i q, (ix_kl kf R k)[i]? = some q → (M 637 i = -1 ∧ ∀ i', i < i' → (ix_kl kf R k)[i']? ≠ some q) ∨ (∃ i', M 637 i = nI i' ∧ i < i' ∧ (ix_kl kf R k)[i']? = some q ∧ ∀ j, i < j → j < i' → (ix_kl kf R k)[j]? ≠ some q))
theorem ix_kl_len {kf : ay_Row → List Int32} {R : List ay_Row} {k : Nat} (h : k ≤ R.length) : (ix_kl kf R k).length = k := by unfold ix_kl; rw [List.length_map, List.length_take, Nat.min_eq_left h]
theorem ix_kl_s {kf : ay_Row → List Int32} {R : List ay_Row} {k : Nat} {r : ay_Row} (h : R[k]? = some r) : ix_kl kf R (k + 1) = ix_kl kf R k ++ [kf r] := by unfold ix_kl; rw [sl_take h, List.map_append]; rfl
theorem ix_kl_at {kf : ay_Row → List Int32} {R : List ay_Row} {k i : Nat} {q : List Int32} (h : (ix_kl kf R k)[i]? = some q) : i < k ∧ ∃ r, R[i]? = some r ∧ kf r = q := by
  unfold ix_kl at h
  rw [List.getElem?_map] at h
  cases e : (R.take k)[i]? with
  | none => rw [e] at h; cases h
  | some r =>
    rw [e] at h
    cases h
    have hi : i < k := by
      have := (List.getElem?_eq_some_iff.mp e).1
      rw [List.length_take] at this
      omega
    rw [List.getElem?_take_of_lt hi] at e
    exact ⟨hi, r, e, rfl⟩
theorem ix_kl_lt {kf : ay_Row → List Int32} {R : List ay_Row} {k i : Nat} {r : ay_Row} (h : R[i]? = some r) (hi : i < k) : (ix_kl kf R k)[i]? = some (kf r) := by
  unfold ix_kl
  rw [List.getElem?_map, List.getElem?_take_of_lt hi, h]; rfl
theorem ix_J_F {z : wd_Z} {M : wd_M} {p w b f n : Nat} {kf : ay_Row → List Int32} {R : List ay_Row} {k : Nat} (h : ix_J z M p w b f n kf R k) : ix_F M p w b f n (ix_Ks kf R k) := by
  intro j q hq
  obtain ⟨h1, h2, h3, h4, h5⟩ := h
  obtain ⟨⟨i, i1, i2, i3⟩, -⟩ := h4 j q hq
  obtain ⟨-, r, r1, r2⟩ := ix_kl_at i2
  have := h3 i r r1
  rw [r2] at this
  exact ⟨this.2, i, i1, this.1⟩
theorem ix_Ks_len {kf : ay_Row → List Int32} {R : List ay_Row} {k : Nat} : (ix_Ks kf R k).length ≤ k := Nat.le_trans (sm_once_len _) (by unfold ix_kl; rw [List.length_map, List.length_take]; omega)
theorem ix_Ks_mem {kf : ay_Row → List Int32} {R : List ay_Row} {k : Nat} {q : List Int32} : q ∈ ix_Ks kf R k ↔ q ∈ ix_kl kf R k := sm_once_mem _ q
section IA
variable {d : Nat} {z : wd_Z} {M : wd_M} {L : wd_L}
/-- one more row -/
theorem ix_add {p w b f n : Nat} {kf : ay_Row → List Int32} {R : List ay_Row} {k : Nat} {r : ay_Row} {K : Int32 → wd_Z → wd_M → wd_L → Prop} (hd : 2 ≤ d) (hJ : ix_J z M p w b f n kf R k) (hr : R[k]? = some r) (hR : R.length ≤ 8192) (hn : n ≤ 256) (hb : b = 22 ∨ b = 644)
    (hK : ∀ M' j, ix_J z M' p w b f n kf R (k + 1) → (ix_Ks kf R (k + 1))[j]? = some (kf r) → (kf r ∈ ix_Ks kf R k → M' 631 6 = M 631 6) → (kf r ∉ ix_Ks kf R k → j = (ix_Ks kf R k).length) → (∀ c, c < 631 ∨ 637 < c → M' c = M c) → (∀ i, i ≠ 6 → M' 631 i = M 631 i) → K (nI j) z M' L) :
    wRunI (d, 0, 0) mX7_add [.ref 631, .int (nI k)] z M L K := by
  have hJ0 := hJ
  obtain ⟨ho, hI, hkey, hfl, hch⟩ := hJ
  have hk := (List.getElem?_eq_some_iff.mp hr).1
  have hKl := ix_Ks_len (kf := kf) (R := R) (k := k)
  obtain ⟨d, rfl, hd'⟩ := ak_deep hd
  obtain ⟨kr1, kr2⟩ := hkey k r hr
  have hF := ix_J_F hJ0
  have hkls := ix_kl_s (kf := kf) hr
  have hlen := ix_kl_len (kf := kf) (R := R) (k := k) (by omega)
  have gl : ∀ i, i < k → (ix_kl kf R (k + 1))[i]? = (ix_kl kf R k)[i]? := fun i hi => by rw [hkls, List.getElem?_append_left (by omega)]
  have gk : (ix_kl kf R (k + 1))[k]? = some (kf r) := by rw [hkls, List.getElem?_append_right (by omega), hlen, Nat.sub_self]; rfl
  have gn : ∀ i, k < i → (ix_kl kf R (k + 1))[i]? = none := fun i hi => List.getElem?_eq_none (by rw [hkls, List.length_append, hlen]; show k + 1 ≤ i; omega)
  have go : ∀ i, k ≤ i → (ix_kl kf R k)[i]? = none := fun i hi => List.getElem?_eq_none (by omega)
  refine fX7_add_e (am_bR_i ho.1 (am_bR_i ho.2.1 ?_))
  rw [ho.2.2.1, ho.2.2.2.1, ho.2.2.2.2.1, pk_mul, nI_add, nI_clamp (by omega)]
  refine ix_find hd' (by rw [kr2]; exact ho) hI (by rw [kr2]; exact hF) kr1 (by omega) (by omega) (fun j hj => ?_) (fun hnm => ?_)
  · -- the key is there
    have hjl := (List.getElem?_eq_some_iff.mp hj).1
    obtain ⟨⟨i0, i1, i2, i3⟩, ⟨l0, l1, l2, l3⟩, cnt⟩ := hfl j (kf r) hj
    have l0k := (ix_kl_at l2).1
    have hmem : kf r ∈ ix_Ks kf R k := List.mem_of_getElem? hj
    have eKs : ix_Ks kf R (k + 1) = ix_Ks kf R k := by
      unfold ix_Ks
      rw [hkls, sm_once_snoc]
      exact if_pos hmem
    have e35 : am_up2 M 637 k (-1) 635 j = nI l0 := by rw [ak_up_cell (by omega)]; exact l1
    rw [nI_clamp (by omega), e35, nI_clamp (by omega)]
    refine ⟨vp_in_nI (by omega) (by omega), fun _ => ⟨vp_in_nI (by omega) (by omega), vp_in_nI (by omega) (by omega), ?_⟩, fun q => absurd (nI_pos' (by omega)) q⟩
    refine fX7_add_122 ?_
    rw [nI_clamp (by omega)]
    have e36 : am_up2 (am_up2 (am_up2 M 637 k (-1)) 637 l0 (nI k)) 635 j (nI k) 636 j = nI ((ix_kl kf R k).count (kf r)) := by rw [ak_up_cell (by omega), ak_up_cell (by omega), ak_up_cell (by omega)]; exact cnt
    rw [e36, nI_1]
    generalize hM' : am_up2 (am_up2 (am_up2 (am_up2 M 637 k (-1)) 637 l0 (nI k)) 635 j (nI k)) 636 j (nI ((ix_kl kf R k).count (kf r) + 1)) = M'
    have fr : ∀ c, c ≠ 635 → c ≠ 636 → c ≠ 637 → M' c = M c := fun c c1 c2 c3 => by rw [← hM', ak_up_cell c2, ak_up_cell c1, ak_up_cell c3, ak_up_cell c3]
    have f35 : ∀ i, M' 635 i = if i = j then nI k else M 635 i := fun i => by
      rw [← hM', ak_up_cell (by omega)]
      by_cases e : i = j
      · rw [if_pos e, e, ak_up_same]
      · rw [if_neg e, ak_up_ne e, ak_up_cell (by omega), ak_up_cell (by omega)]
    have f36 : ∀ i, M' 636 i = if i = j then nI ((ix_kl kf R k).count (kf r) + 1) else M 636 i := fun i => by
      rw [← hM']
      by_cases e : i = j
      · rw [if_pos e, e, ak_up_same]
      · rw [if_neg e, ak_up_ne e, ak_up_cell (by omega), ak_up_cell (by omega), ak_up_cell (by omega)]
    have f37 : ∀ i, M' 637 i = if i = l0 then nI k else if i = k then -1 else M 637 i := fun i => by
      rw [← hM', ak_up_cell (by omega), ak_up_cell (by omega)]
      by_cases e : i = l0
      · rw [if_pos e, e, ak_up_same]
      · rw [if_neg e, ak_up_ne e]
        by_cases e' : i = k
        · rw [if_pos e', e', ak_up_same]
        · rw [if_neg e', ak_up_ne e']
    have hb' : b ≠ 635 ∧ b ≠ 636 ∧ b ≠ 637 := by omega
    refine ⟨vp_in_nI (by omega) (by omega), vp_in_nI (by omega) (by omega), vp_in_nI (by omega) (by omega), wQi_i (hK M' j ⟨?_, ?_, ?_, ?_, ?_⟩ (by rw [eKs]; exact hj) (fun _ => by rw [fr 631 (by omega) (by omega) (by omega)]) (fun q => absurd hmem q) (fun c hc => fr c (by omega) (by omega) (by omega)) (fun i _ => by rw [fr 631 (by omega) (by omega) (by omega)]))⟩
    · obtain ⟨o1, o2, o3, o4, o5, o6⟩ := ho
      have e := fr 631 (by omega) (by omega) (by omega)
      exact ⟨o1, o2, by rw [e]; exact o3, by rw [e]; exact o4, by rw [e]; exact o5, by rw [e]; exact o6⟩
    · rw [eKs]
      unfold ix_I
      rw [fr 631 (by omega) (by omega) (by omega), fr 632 (by omega) (by omega) (by omega), fr 633 (by omega) (by omega) (by omega)]
      exact hI
    · intro i r' hi
      exact ⟨ix_key_fr (hkey i r' hi).1 (fr 638 (by omega) (by omega) (by omega)) (fr b hb'.1 hb'.2.1 hb'.2.2), (hkey i r' hi).2⟩
    · intro jj q hq
      rw [eKs] at hq
      obtain ⟨⟨a0, a1, a2, a3⟩, ⟨b0, b1, b2, b3⟩, cc⟩ := hfl jj q hq
      have a0k := (ix_kl_at a2).1
      have b0k := (ix_kl_at b2).1
      refine ⟨⟨a0, by rw [fr 634 (by omega) (by omega) (by omega)]; exact a1, by rw [gl a0 a0k]; exact a2, fun i' hi' => by rw [gl i' (by omega)]; exact a3 i' hi'⟩, ?_, ?_⟩
      · by_cases e : jj = j
        · subst e
          have eq : q = kf r := by rw [hj] at hq; exact (Option.some.inj hq).symm
          exact ⟨k, by rw [f35, if_pos rfl], by rw [eq]; exact gk, fun i' hi' => by rw [gn i' hi']; exact fun h => by cases h⟩
        · refine ⟨b0, by rw [f35, if_neg e]; exact b1, by rw [gl b0 b0k]; exact b2, fun i' hi' => ?_⟩
          by_cases h1 : i' < k
          · rw [gl i' h1]; exact b3 i' hi'
          · by_cases h2 : i' = k
            · rw [h2, gk]
              intro h
              have eq : kf r = q := Option.some.inj h
              rw [← eq] at hq
              have n1 := sm_once_nodup (ix_kl kf R k)
              have := (List.getElem?_inj (i := j) (j := jj) hjl n1).mp (by show (ix_Ks kf R k)[j]? = (ix_Ks kf R k)[jj]?; rw [hj, hq])
              exact e this.symm
            · rw [gn i' (by omega)]; exact fun h => by cases h
      · by_cases e : jj = j
        · subst e
          have eq : q = kf r := by rw [hj] at hq; exact (Option.some.inj hq).symm
          rw [f36, if_pos rfl, hkls, List.count_append, eq]
          simp
        · rw [f36, if_neg e, hkls, List.count_append, cc]
          have ne : ¬ kf r = q := fun h => by
            rw [← h] at hq
            have n1 := sm_once_nodup (ix_kl kf R k)
            have := (List.getElem?_inj (i := j) (j := jj) hjl n1).mp (by show (ix_Ks kf R k)[j]? = (ix_Ks kf R k)[jj]?; rw [hj, hq])
            exact e this.symm
          rw [List.count_cons_of_ne ne]; rfl
    · intro i q hq
      by_cases hik : i = k
      · subst hik
        rw [gk] at hq
        refine Or.inl ⟨by rw [f37, if_neg (by omega), if_pos rfl], fun i' hi' => by rw [gn i' hi']; exact fun h => by cases h⟩
      · have hlt : i < k := by
          rcases Nat.lt_or_ge i k with h | h
          · exact h
          · rw [gn i (by omega)] at hq; cases hq
        rw [gl i hlt] at hq
        by_cases eil : i = l0
        · subst eil
          rw [l2] at hq
          have eq : kf r = q := Option.some.inj hq
          refine Or.inr ⟨k, by rw [f37, if_pos rfl], hlt, by rw [← eq]; exact gk, fun j' h1 h2 => ?_⟩
          rw [gl j' h2, ← eq]
          exact l3 j' h1
        · rw [f37, if_neg eil, if_neg hik]
          rcases hch i q hq with ⟨c1, c2⟩ | ⟨i', c1, c2, c3, c4⟩
          · refine Or.inl ⟨c1, fun i' hi' => ?_⟩
            by_cases h1 : i' < k
            · rw [gl i' h1]; exact c2 i' hi'
            · by_cases h2 : i' = k
              · rw [h2, gk]
                intro h
                have eq : kf r = q := Option.some.inj h
                rw [← eq] at hq c2
                rcases Nat.lt_trichotomy i l0 with g | g | g
                · exact c2 l0 g l2
                · exact eil g
                · exact l3 i g hq
              · rw [gn i' (by omega)]; exact fun h => by cases h
          · have i'k := (ix_kl_at c3).1
            exact Or.inr ⟨i', c1, c2, by rw [gl i' i'k]; exact c3, fun j' h1 h2 => by rw [gl j' (by omega)]; exact c4 j' h1 h2⟩
  · -- a new key
    have hnm' : kf r ∉ ix_kl kf R k := fun h => hnm (ix_Ks_mem.mpr h)
    have eKs : ix_Ks kf R (k + 1) = ix_Ks kf R k ++ [kf r] := by
      unfold ix_Ks
      rw [hkls, sm_once_snoc]
      exact if_neg hnm
    have hkn : ∀ i, (ix_kl kf R k)[i]? ≠ some (kf r) := fun i h => hnm' (List.mem_of_getElem? h)
    refine ⟨vp_in_nI (by omega) (by omega), fun q => absurd q (by decide), fun _ => am_bR_i ho.1 (am_bR_i ho.2.1 ?_)⟩
    have e6 : am_up2 M 637 k (-1) 631 6 = nI (ix_Ks kf R k).length := by rw [ak_up_cell (by omega)]; exact hI.1
    rw [e6, nI_1, nI_clamp (by omega)]
    have e11 : am_up2 (am_up2 M 637 k (-1)) 631 6 (nI ((ix_Ks kf R k).length + 1)) 631 11 = nI f := by rw [ak_up_ne (by omega), ak_up_cell (by omega)]; exact ho.2.2.2.2.1
    rw [e11]
    have hb0 : b ≠ 631 ∧ b ≠ 632 ∧ b ≠ 633 ∧ b ≠ 634 ∧ b ≠ 635 ∧ b ≠ 636 ∧ b ≠ 637 := by omega
    have hh := (ix_hs_eq (kf r)).2
    refine ix_hash (kx := kf r) (ix_key_fr kr1 (by rw [ak_up_cell (by omega), ak_up_cell (by omega)]) (by rw [ak_up_cell hb0.1, ak_up_cell hb0.2.2.2.2.2.2])) (by rw [ak_up_ne (by omega), ak_up_cell (by omega), kr2]; exact ho.2.2.2.2.2) (by omega) ?_
    rw [nI_clamp (by omega)]
    have e32 : am_up2 (am_up2 M 637 k (-1)) 631 6 (nI ((ix_Ks kf R k).length + 1)) 632 (ix_hs (kf r)) = ak_o (ix_lb (fun j => ix_hs ((ix_Ks kf R k).getD j []) == ix_hs (kf r)) (ix_Ks kf R k).length) := by rw [ak_up_cell (by omega), ak_up_cell (by omega)]; exact hI.2.1 _ hh
    rw [e32]
    generalize hkk : (ix_Ks kf R k).length = kk at *
    refine ⟨vp_in_nI (by omega) (by omega), vp_in_nI (by omega) (by omega), vp_in_nI (by omega) (by omega), vp_in_nI (by omega) (by omega), vp_in_nI (by omega) (by omega), fX7_add_122 ?_⟩
    rw [nI_clamp (by omega)]
    generalize hv : ak_o (ix_lb (fun j => ix_hs ((ix_Ks kf R k).getD j []) == ix_hs (kf r)) kk) = v
    generalize hM0 : am_up2 (am_up2 (am_up2 (am_up2 (am_up2 (am_up2 M 637 k (-1)) 631 6 (nI (kk + 1))) 633 kk v) 632 (ix_hs (kf r)) (nI kk)) 634 kk (nI k)) 636 kk 0 = M0
    have e36 : am_up2 M0 635 kk (nI k) 636 kk = nI 0 := by rw [ak_up_cell (by omega), ← hM0, ak_up_same]; rfl
    rw [e36, nI_1]
    generalize hM' : am_up2 (am_up2 M0 635 kk (nI k)) 636 kk (nI (0 + 1)) = M'
    have fr : ∀ c, c < 631 ∨ 637 < c → M' c = M c := fun c hc => by rw [← hM', ← hM0, ak_up_cell (by omega), ak_up_cell (by omega), ak_up_cell (by omega), ak_up_cell (by omega), ak_up_cell (by omega), ak_up_cell (by omega), ak_up_cell (by omega), ak_up_cell (by omega)]
    have f31 : ∀ i, i ≠ 6 → M' 631 i = M 631 i := fun i hi => by rw [← hM', ← hM0, ak_up_cell (by omega), ak_up_cell (by omega), ak_up_cell (by omega), ak_up_cell (by omega), ak_up_cell (by omega), ak_up_cell (by omega), ak_up_ne hi, ak_up_cell (by omega)]
    have f316 : M' 631 6 = nI (kk + 1) := by rw [← hM', ← hM0, ak_up_cell (by omega), ak_up_cell (by omega), ak_up_cell (by omega), ak_up_cell (by omega), ak_up_cell (by omega), ak_up_cell (by omega), ak_up_same]
    have f32 : ∀ i, M' 632 i = if i = ix_hs (kf r) then nI kk else M 632 i := fun i => by
      rw [← hM', ← hM0, ak_up_cell (by omega), ak_up_cell (by omega), ak_up_cell (by omega), ak_up_cell (by omega)]
      by_cases e : i = ix_hs (kf r)
      · rw [if_pos e, e, ak_up_same]
      · rw [if_neg e, ak_up_ne e, ak_up_cell (by omega), ak_up_cell (by omega), ak_up_cell (by omega)]
    have f33 : ∀ i, M' 633 i = if i = kk then v else M 633 i := fun i => by
      rw [← hM', ← hM0, ak_up_cell (by omega), ak_up_cell (by omega), ak_up_cell (by omega), ak_up_cell (by omega), ak_up_cell (by omega)]
      by_cases e : i = kk
      · rw [if_pos e, e, ak_up_same]
      · rw [if_neg e, ak_up_ne e, ak_up_cell (by omega), ak_up_cell (by omega)]
    have f34 : ∀ i, M' 634 i = if i = kk then nI k else M 634 i := fun i => by
      rw [← hM', ← hM0, ak_up_cell (by omega), ak_up_cell (by omega), ak_up_cell (by omega)]
      by_cases e : i = kk
      · rw [if_pos e, e, ak_up_same]
      · rw [if_neg e, ak_up_ne e, ak_up_cell (by omega), ak_up_cell (by omega), ak_up_cell (by omega), ak_up_cell (by omega)]
    have f35 : ∀ i, M' 635 i = if i = kk then nI k else M 635 i := fun i => by
      rw [← hM', ak_up_cell (by omega)]
      by_cases e : i = kk
      · rw [if_pos e, e, ak_up_same]
      · rw [if_neg e, ak_up_ne e, ← hM0, ak_up_cell (by omega), ak_up_cell (by omega), ak_up_cell (by omega), ak_up_cell (by omega), ak_up_cell (by omega), ak_up_cell (by omega)]
    have f36 : ∀ i, M' 636 i = if i = kk then nI 1 else M 636 i := fun i => by
      rw [← hM']
      by_cases e : i = kk
      · rw [if_pos e, e, ak_up_same]
      · rw [if_neg e, ak_up_ne e, ak_up_cell (by omega), ← hM0, ak_up_ne e, ak_up_cell (by omega), ak_up_cell (by omega), ak_up_cell (by omega), ak_up_cell (by omega), ak_up_cell (by omega)]
    have f37 : ∀ i, M' 637 i = if i = k then -1 else M 637 i := fun i => by
      rw [← hM', ak_up_cell (by omega), ak_up_cell (by omega), ← hM0, ak_up_cell (by omega), ak_up_cell (by omega), ak_up_cell (by omega), ak_up_cell (by omega), ak_up_cell (by omega)]
      by_cases e : i = k
      · rw [if_pos e, e, ak_up_same]
      · rw [if_neg e, ak_up_ne e]
    have gD : ∀ i, i < kk → (ix_Ks kf R (k + 1)).getD i [] = (ix_Ks kf R k).getD i [] := fun i hi => by
      rw [eKs, List.getD_eq_getElem?_getD, List.getD_eq_getElem?_getD, List.getElem?_append_left (by omega)]
    have gDk : (ix_Ks kf R (k + 1)).getD kk [] = kf r := by
      rw [eKs, List.getD_eq_getElem?_getD, List.getElem?_append_right (by omega), hkk, Nat.sub_self]; rfl
    have hl1 : (ix_Ks kf R (k + 1)).length = kk + 1 := by rw [eKs, List.length_append, hkk]; rfl
    have hget : ∀ jj q, (ix_Ks kf R (k + 1))[jj]? = some q → (jj < kk ∧ (ix_Ks kf R k)[jj]? = some q) ∨ (jj = kk ∧ q = kf r) := fun jj q hq => by
      rw [eKs] at hq
      by_cases h : jj < kk
      · rw [List.getElem?_append_left (by omega)] at hq
        exact Or.inl ⟨h, hq⟩
      · have hlt := (List.getElem?_eq_some_iff.mp hq).1
        rw [List.length_append, hkk] at hlt
        have hlt : jj < kk + 1 := hlt
        have ej : jj = kk := by omega
        rw [ej, List.getElem?_append_right (by omega), hkk, Nat.sub_self] at hq
        exact Or.inr ⟨ej, by simpa using hq.symm⟩
    refine ⟨vp_in_nI (by omega) (by omega), vp_in_nI (by omega) (by omega), vp_in_nI (by omega) (by omega), wQi_i (hK M' kk ⟨?_, ⟨?_, ?_, ?_⟩, ?_, ?_, ?_⟩ ?_ (fun q => absurd q hnm) (fun _ => rfl) fr f31)⟩
    · obtain ⟨o1, o2, o3, o4, o5, o6⟩ := ho
      exact ⟨o1, o2, by rw [f31 8 (by omega)]; exact o3, by rw [f31 9 (by omega)]; exact o4, by rw [f31 11 (by omega)]; exact o5, by rw [f31 12 (by omega)]; exact o6⟩
    · rw [f316, hl1]
    · intro h hh4
      rw [f32, hl1]
      unfold ix_lb
      rw [gDk]
      have cg : ix_lb (fun j => ix_hs ((ix_Ks kf R (k + 1)).getD j []) == h) kk = ix_lb (fun j => ix_hs ((ix_Ks kf R k).getD j []) == h) kk := ix_lb_congr fun i hi => by rw [gD i hi]
      by_cases e : h = ix_hs (kf r)
      · rw [if_pos e, e]; simp [ak_o]
      · rw [if_neg e]
        have : ¬ (ix_hs (kf r) == h) = true := fun q => e (by rw [beq_iff_eq] at q; exact q.symm)
        rw [if_neg this, cg]
        have g := hI.2.1 h hh4
        rw [hkk] at g
        exact g
    · intro j hj
      rw [hl1] at hj
      rw [f33]
      by_cases e : j = kk
      · rw [if_pos e, ← hv, e, gDk]
        congr 1
        exact ix_lb_congr fun i hi => by rw [gD i hi]
      · rw [if_neg e, gD j (by omega)]
        have := hI.2.2 j (by omega)
        rw [this]
        congr 1
        exact ix_lb_congr fun i hi => by rw [gD i (by omega)]
    · intro i r' hi
      exact ⟨ix_key_fr (hkey i r' hi).1 (fr 638 (by omega)) (fr b (by omega)), (hkey i r' hi).2⟩
    · intro jj q hq
      rcases hget jj q hq with ⟨h1, h2⟩ | ⟨h1, h2⟩
      · obtain ⟨⟨a0, a1, a2, a3⟩, ⟨b0, b1, b2, b3⟩, cc⟩ := hfl jj q h2
        have a0k := (ix_kl_at a2).1
        have b0k := (ix_kl_at b2).1
        have ne : ¬ kf r = q := fun h => hnm (by rw [h]; exact List.mem_of_getElem? h2)
        refine ⟨⟨a0, by rw [f34, if_neg (by omega)]; exact a1, by rw [gl a0 a0k]; exact a2, fun i' hi' => by rw [gl i' (by omega)]; exact a3 i' hi'⟩, ⟨b0, by rw [f35, if_neg (by omega)]; exact b1, by rw [gl b0 b0k]; exact b2, fun i' hi' => ?_⟩, ?_⟩
        · by_cases h3 : i' < k
          · rw [gl i' h3]; exact b3 i' hi'
          · by_cases h4 : i' = k
            · rw [h4, gk]; exact fun h => ne (Option.some.inj h)
            · rw [gn i' (by omega)]; exact fun h => by cases h
        · rw [f36, if_neg (by omega), hkls, List.count_append, cc, List.count_cons_of_ne ne]; rfl
      · subst h2
        refine ⟨⟨k, by rw [f34, if_pos h1], gk, fun i' hi' => by rw [gl i' hi']; exact hkn i'⟩, ⟨k, by rw [f35, if_pos h1], gk, fun i' hi' => by rw [gn i' hi']; exact fun h => by cases h⟩, ?_⟩
        rw [f36, if_pos h1, hkls, List.count_append, List.count_eq_zero.mpr hnm']
        simp
    · intro i q hq
      rw [f37]
      by_cases hik : i = k
      · subst hik
        exact Or.inl ⟨if_pos rfl, fun i' hi' => by rw [gn i' hi']; exact fun h => by cases h⟩
      · have hlt : i < k := by
          rcases Nat.lt_or_ge i k with h | h
          · exact h
          · rw [gn i (by omega)] at hq; cases hq
        rw [gl i hlt] at hq
        rw [if_neg hik]
        have ne : ¬ kf r = q := fun h => hnm' (by rw [h]; exact List.mem_of_getElem? hq)
        rcases hch i q hq with ⟨c1, c2⟩ | ⟨i', c1, c2, c3, c4⟩
        · refine Or.inl ⟨c1, fun i' hi' => ?_⟩
          by_cases h1 : i' < k
          · rw [gl i' h1]; exact c2 i' hi'
          · by_cases h2 : i' = k
            · rw [h2, gk]; exact fun h => ne (Option.some.inj h)
            · rw [gn i' (by omega)]; exact fun h => by cases h
        · have i'k := (ix_kl_at c3).1
          exact Or.inr ⟨i', c1, c2, by rw [gl i' i'k]; exact c3, fun j' h1 h2 => by rw [gl j' (by omega)]; exact c4 j' h1 h2⟩
    · rw [eKs, List.getElem?_append_right (by omega), hkk, Nat.sub_self]; rfl
end IA
