/-! CONTRACTS of ApplyFree$Executor: isBefore, merge, sort -/
theorem sm_le_pre : ∀ {c : Nat} {a b : List Int32}, a.take c = b.take c → sm_le a b = sm_le (a.drop c) (b.drop c)
  | 0, _, _, _ => rfl
  | c + 1, [], [], _ => by simp
  | c + 1, [], y :: b, h => by simp at h
  | c + 1, x :: a, [], h => by simp at h
  | c + 1, x :: a, y :: b, h => by
    rw [List.take_succ_cons, List.take_succ_cons] at h
    injection h with h1 h2
    rw [List.drop_succ_cons, List.drop_succ_cons, ← sm_le_pre h2, h1]
    simp [sm_le, sm_i_lt]
theorem sm_le_head {x y : Int32} {a b : List Int32} (h : x ≠ y) : sm_le (x :: a) (y :: b) = decide (x < y) := by
  unfold sm_le
  simp [h]
section XE
variable {d : Nat} {z : wd_Z} {M0 : wd_M} {L : wd_L}
theorem xe_before_19 {M : wd_M} {l p w pa pb : Nat} {R : List ay_Row} {a b : ay_Row} {K : Int32 → wd_Z → wd_M → wd_L → Prop} (hB : xe_B M l p w R) (ha : sl_at (M 638) pa a) (hb : sl_at (M 638) pb b) (hla : a.length = w) (hlb : b.length = w) (hpa : pa + w ≤ 600000) (hpb : pb + w ≤ 600000) (hw : w < 100000)
    (hK : K (if sm_le b a then 0 else 1) z M L) : ∀ (n c : Nat), c + n = w → a.take c = b.take c → wRun (d + 1, 0, 0) mX5_isBefore 19 [some (.ref 628), some (.int (nI l)), none, none, some (.int (nI pa)), some (.int (nI pb)), some (.int (nI c))] [] z M L (wQi K)
  | 0, c, hc, he => by
    have ec : c = w := by omega
    subst ec
    rw [List.take_of_length_le (by omega), List.take_of_length_le (by omega)] at he
    have hl := hB.1
    have h0 : sm_le b a = true := by rw [he]; exact sm_le_refl b
    rw [if_pos h0] at hK
    refine fX5_isBefore_19 ?_
    rw [nI_clamp (show l < 2 ^ 31 by omega), hB.2.2.2.1]
    exact ⟨vp_in_nI hl (by omega), fun _ => ⟨vp_in_nI hl (by omega), fun _ => am_gz0 (wQi_i hK), fun q => absurd (nI_le (Nat.le_refl _) (by omega)) q⟩, fun q => absurd (nI_le (Nat.le_refl _) (by omega)) q⟩
  | n + 1, c, hc, he => by
    have hl := hB.1
    have eA : M 638 (pa + c) = a[c] := sl_get ha (by omega)
    have eB : M 638 (pb + c) = b[c] := sl_get hb (by omega)
    refine fX5_isBefore_19 ?_
    rw [nI_clamp (show l < 2 ^ 31 by omega), hB.2.2.2.1, nI_add, nI_add, nI_clamp (show pa + c < 2 ^ 31 by omega), nI_clamp (show pb + c < 2 ^ 31 by omega), eA, eB, nI_1]
    have ng : ¬ nI w ≤ nI c := nI_ge (by omega) (by omega)
    refine ⟨vp_in_nI hl (by omega), fun q => absurd q ng, fun _ => ⟨vp_in_nI (by omega) (by omega), vp_in_nI (by omega) (by omega), fun e => ?_, fun e => ⟨vp_in_nI hl (by omega), fun q => absurd q ng, fun _ => ⟨vp_in_nI (by omega) (by omega), vp_in_nI (by omega) (by omega), ?_⟩⟩⟩⟩
    · refine xe_before_19 hB ha hb hla hlb hpa hpb hw hK n (c + 1) (by omega) ?_
      rw [sl_take (List.getElem?_eq_getElem (show c < a.length by omega)), sl_take (List.getElem?_eq_getElem (show c < b.length by omega)), he, e]
    · have hle : sm_le b a = decide (b[c] < a[c]) := by
        rw [sm_le_pre he.symm, List.drop_eq_getElem_cons (show c < b.length by omega), List.drop_eq_getElem_cons (show c < a.length by omega)]
        exact sm_le_head fun h => e h.symm
      rw [hle] at hK
      refine ⟨fun q => ?_, fun q => ?_⟩
      · rw [if_pos (by rw [decide_eq_true_eq, sm_i_lt]; rw [sm_i_le] at q; rw [sm_i_eq] at e; omega)] at hK
        exact am_gz0 (wQi_i hK)
      · rw [if_neg (by rw [decide_eq_true_eq, sm_i_lt]; rw [sm_i_le] at q; omega)] at hK
        exact am_gz1 (wQi_i hK)
theorem xe_before {M : wd_M} {l p w i j : Nat} {R : List ay_Row} {a b : ay_Row} {K : Int32 → wd_Z → wd_M → wd_L → Prop} (hd : 1 ≤ d) (hB : xe_B M l p w R) (hp : p + R.length * w ≤ 600000) (hw : w < 100000) (ha : R[i]? = some a) (hb : R[j]? = some b) (hK : K (if sm_le b a then 0 else 1) z M L) : wRunI (d, 0, 0) mX5_isBefore [.ref 628, .int (nI l), .int (nI i), .int (nI j)] z M L K := by
  obtain ⟨d, rfl, hd'⟩ := ak_deep hd
  have h1 := xe_at_lt (w := w) ha
  have h2 := xe_at_lt (w := w) hb
  refine fX5_isBefore_e (xe_at hB (xe_at hB ?_))
  rw [ak_n0]
  exact xe_before_19 (d := d) hB (sl_fget hB.2.2.2.2.2 hB.2.2.2.2.1 ha) (sl_fget hB.2.2.2.2.2 hB.2.2.2.2.1 hb) (sl_W_at hB.2.2.2.2.1 ha) (sl_W_at hB.2.2.2.2.1 hb) (by omega) (by omega) hw hK w 0 (by omega) rfl
/-- the order of the rows, by their places -/
def xe_lo (R : List ay_Row) (a b : Nat) : Bool := sm_le (R.getD a []) (R.getD b [])
def xe_nl (l : List Nat) : List Int32 := l.map nI
theorem xe_nl_len (l : List Nat) : (xe_nl l).length = l.length := by unfold xe_nl; rw [List.length_map]
theorem xe_merge_9 {l p w fm md to : Nat} {R : List ay_Row} {A0 B0 od : List Nat} {K : wd_Z → wd_M → wd_L → Prop} (hd : 1 ≤ d) (hB : xe_B M0 l p w R) (hp : p + R.length * w ≤ 600000) (hw : w < 100000) (hto : to ≤ od.length) (hod : od.length ≤ 8192) (hR : ∀ x, x ∈ od → x < R.length)
    (hK : ∀ M', (∀ c, c ≠ 647 → M' c = M0 c) → sl_at (M' 647) fm (xe_nl (List.merge A0 B0 (xe_lo R))) → (∀ i, i < fm ∨ to ≤ i → M' 647 i = M0 647 i) → K z M' L) :
    ∀ (n k i j : Nat) (M : wd_M) (done : List Nat), k + n = to → k = fm + done.length → i ≤ md → md ≤ j → j ≤ to → fm ≤ i → (md - i) + (to - j) = n → (∀ c, c ≠ 647 → M c = M0 c) → sl_at (M 646) 0 (xe_nl od) → sl_at (M 647) fm (xe_nl done) → (∀ x, x < fm ∨ to ≤ x → M 647 x = M0 647 x) →
      done ++ List.merge ((od.drop i).take (md - i)) ((od.drop j).take (to - j)) (xe_lo R) = List.merge A0 B0 (xe_lo R) →
      wRun (d + 1, 0, 0) mX5_merge 9 [some (.ref 628), some (.int (nI l)), none, some (.int (nI md)), some (.int (nI to)), some (.int (nI i)), some (.int (nI j)), some (.int (nI k)), none] [] z M L (wQv K)
  | 0, k, i, j, M, done, hk, hkd, hi, hj, hjt, hfi, hn, hM, ho, ha, hout, hm => by
    have e1 : md - i = 0 := by omega
    have e2 : to - j = 0 := by omega
    rw [e1, e2, List.take_zero, List.take_zero] at hm
    have e3 : List.merge ([] : List Nat) [] (xe_lo R) = [] := by simp
    rw [e3, List.append_nil] at hm
    refine fX5_merge_9 ⟨fun _ => wQv_i (hK M hM (by rw [← hm]; exact ha) hout), fun q => absurd (nI_le (by omega) (by omega)) q⟩
  | n + 1, k, i, j, M, done, hk, hkd, hi, hj, hjt, hfi, hn, hM, ho, ha, hout, hm => by
    have hB' : xe_B M l p w R := by
      unfold xe_B at *
      rw [hM 638 (by omega), hM 639 (by omega), hM 640 (by omega), hM 641 (by omega)]; exact hB
    have gi : ∀ x, x < od.length → M 646 x = nI od[x]! ∧ od[x]? = some od[x]! := fun x hx => by
      have : od[x]? = some od[x]! := by rw [List.getElem?_eq_getElem hx, getElem!_pos od x hx]
      refine ⟨?_, this⟩
      have := ho x (nI od[x]!) (by unfold xe_nl; rw [List.getElem?_map, this]; rfl)
      rwa [Nat.zero_add] at this
    -- one number into its place
    have c92 : ∀ {v i' j' : Nat}, i' ≤ md → md ≤ j' → j' ≤ to → fm ≤ i' → (md - i') + (to - j') = n → (done ++ [v]) ++ List.merge ((od.drop i').take (md - i')) ((od.drop j').take (to - j')) (xe_lo R) = List.merge A0 B0 (xe_lo R) → wRun (d + 1, 0, 0) mX5_merge 92 [some (.ref 628), some (.int (nI l)), none, some (.int (nI md)), some (.int (nI to)), some (.int (nI i')), some (.int (nI j')), some (.int (nI k)), none] [.int (nI v), .int (nI k), .ref 647] z M L (wQv K) := fun {v i' j'} h1 h2 h3 h4 h5 h6 => by
      refine fX5_merge_92 ?_
      rw [nI_clamp (show k < 2 ^ 31 by omega), nI_1]
      refine ⟨vp_in_nI (by omega) (by omega), xe_merge_9 hd hB hp hw hto hod hR hK n (k + 1) i' j' _ (done ++ [v]) (by omega) (by rw [List.length_append]; show k + 1 = fm + (done.length + 1); omega) h1 h2 h3 h4 h5 (fun c hc => by rw [ak_up_cell hc]; exact hM c hc) (by rw [ak_up_cell (by omega)]; exact ho) ?_ (fun x hx => by rw [ak_up_ne (by omega)]; exact hout x hx) h6⟩
      unfold xe_nl
      rw [List.map_append, sl_app, List.length_map, ak_up_own]
      refine ⟨sl_upd ha (by rw [List.length_map]; omega), sl_one.mpr ?_⟩
      rw [← hkd, pk_us]
    have takeB : j < to → ((md ≤ i ∨ (i < md ∧ xe_lo R od[i]! od[j]! = false))) → wRun (d + 1, 0, 0) mX5_merge 51 [some (.ref 628), some (.int (nI l)), none, some (.int (nI md)), some (.int (nI to)), some (.int (nI i)), some (.int (nI j)), some (.int (nI k)), none] [] z M L (wQv K) := fun hjt' hor => by
      refine fX5_merge_51 (fX5_merge_56 ⟨fun e => absurd e (by decide), fun _ => ?_⟩)
      obtain ⟨m1, m2⟩ := gi j (by omega)
      rw [nI_clamp (show j < 2 ^ 31 by omega), m1, nI_1]
      refine ⟨vp_in_nI (by omega) (by omega), c92 hi (by omega) (by omega) hfi (by omega) ?_⟩
      have eb : (od.drop j).take (to - j) = od[j]! :: (od.drop (j + 1)).take (to - (j + 1)) := by
        rw [List.drop_eq_getElem_cons (show j < od.length by omega), show to - j = (to - (j + 1)) + 1 by omega, List.take_succ_cons, getElem!_pos od j (by omega)]
      rw [eb] at hm
      rw [← hm, List.append_assoc]
      congr 1
      rcases hor with h | ⟨h, hlt⟩
      · have e0 : md - i = 0 := by omega
        rw [e0, List.take_zero]; simp
      · have ea : (od.drop i).take (md - i) = od[i]! :: (od.drop (i + 1)).take (md - (i + 1)) := by
          rw [List.drop_eq_getElem_cons (show i < od.length by omega), show md - i = (md - (i + 1)) + 1 by omega, List.take_succ_cons, getElem!_pos od i (by omega)]
        rw [ea]
        rw [List.cons_merge_cons, hlt]; simp
    have takeA : i < md → (to ≤ j ∨ (j < to ∧ xe_lo R od[i]! od[j]! = true)) → wRun (d + 1, 0, 0) mX5_merge 55 [some (.ref 628), some (.int (nI l)), none, some (.int (nI md)), some (.int (nI to)), some (.int (nI i)), some (.int (nI j)), some (.int (nI k)), none] [] z M L (wQv K) := fun him hor => by
      refine fX5_merge_55 (fX5_merge_56 ⟨fun _ => ?_, fun e => absurd rfl e⟩)
      obtain ⟨m1, m2⟩ := gi i (by omega)
      rw [nI_clamp (show i < 2 ^ 31 by omega), m1, nI_1]
      refine ⟨vp_in_nI (by omega) (by omega), c92 (by omega) hj hjt (by omega) (by omega) ?_⟩
      have ea : (od.drop i).take (md - i) = od[i]! :: (od.drop (i + 1)).take (md - (i + 1)) := by
        rw [List.drop_eq_getElem_cons (show i < od.length by omega), show md - i = (md - (i + 1)) + 1 by omega, List.take_succ_cons, getElem!_pos od i (by omega)]
      rw [ea] at hm
      rw [← hm, List.append_assoc]
      congr 1
      rcases hor with h | ⟨h, hlt⟩
      · have e0 : to - j = 0 := by omega
        rw [e0, List.take_zero]; simp
      · have eb : (od.drop j).take (to - j) = od[j]! :: (od.drop (j + 1)).take (to - (j + 1)) := by
          rw [List.drop_eq_getElem_cons (show j < od.length by omega), show to - j = (to - (j + 1)) + 1 by omega, List.take_succ_cons, getElem!_pos od j (by omega)]
        rw [eb]
        rw [List.cons_merge_cons, hlt]; simp
    refine fX5_merge_9 ⟨fun q => absurd q (nI_ge (by omega) (by omega)), fun _ => ?_⟩
    rw [nI_eq (by omega) (by omega), nI_leI (by omega) (by omega)]
    refine ⟨fun e => takeB (by omega) (Or.inl (by omega)), fun e => ⟨fun e2 => takeA (by omega) (Or.inl e2), fun e2 => ?_⟩⟩
    obtain ⟨m1, m2⟩ := gi i (by omega)
    obtain ⟨m3, m4⟩ := gi j (by omega)
    have li := hR _ (List.mem_of_getElem? m2)
    have lj := hR _ (List.mem_of_getElem? m4)
    obtain ⟨ra, hra⟩ := sl_idx li
    obtain ⟨rb, hrb⟩ := sl_idx lj
    rw [nI_clamp (show j < 2 ^ 31 by omega), nI_clamp (show i < 2 ^ 31 by omega), m1, m3]
    have exl : xe_lo R od[i]! od[j]! = sm_le ra rb := by
      unfold xe_lo
      rw [List.getD_eq_getElem?_getD, List.getD_eq_getElem?_getD, hra, hrb]; rfl
    refine ⟨vp_in_nI (by omega) (by omega), vp_in_nI (by omega) (by omega), xe_before hd hB' hp hw hrb hra ?_⟩
    cases hle : sm_le ra rb with
    | true => exact ⟨fun _ => takeA (by omega) (Or.inr ⟨by omega, by rw [exl]; exact hle⟩), fun q => absurd rfl q⟩
    | false => exact ⟨fun q => absurd q (by decide), fun _ => takeB (by omega) (Or.inr ⟨by omega, by rw [exl]; exact hle⟩)⟩
theorem xe_merge {M : wd_M} {l p w fm md to : Nat} {R : List ay_Row} {od : List Nat} {K : wd_Z → wd_M → wd_L → Prop} (hd : 2 ≤ d) (hB : xe_B M l p w R) (hp : p + R.length * w ≤ 600000) (hw : w < 100000) (h1 : fm ≤ md) (h2 : md ≤ to) (hto : to ≤ od.length) (hod : od.length ≤ 8192) (hR : ∀ x, x ∈ od → x < R.length) (ho : sl_at (M 646) 0 (xe_nl od))
    (hK : ∀ M', (∀ c, c ≠ 647 → M' c = M c) → sl_at (M' 647) fm (xe_nl (List.merge ((od.drop fm).take (md - fm)) ((od.drop md).take (to - md)) (xe_lo R))) → (∀ i, i < fm ∨ to ≤ i → M' 647 i = M 647 i) → K z M' L) :
    wRunV (d, 0, 0) mX5_merge [.ref 628, .int (nI l), .int (nI fm), .int (nI md), .int (nI to)] z M L K := by
  obtain ⟨d, rfl, hd'⟩ := ak_deep hd
  refine fX5_merge_e ?_
  exact xe_merge_9 (d := d) hd' hB hp hw hto hod hR hK (to - fm) fm fm md M [] (by omega) rfl h1 (Nat.le_refl _) h2 (Nat.le_refl _) (by omega) (fun _ _ => rfl) ho (by unfold xe_nl; exact sl_nil) (fun _ _ => rfl) rfl
end XE
