/-! LAW OF STEPS: a list of steps that can be done, with so much room -/
def cv_rf (st : cp_St) (t : Nat) : Prop := st.2.1 = some t ∨ st.2.2.1 = some t
/-- steps that are still needed, with a bound of their cells -/
abbrev cv_X : Type := List (Nat × Nat)
def cv_n (X : cv_X) : Nat := (X.map Prod.snd).sum
def cv_x (A : xe_A) (s : Nat) (X : cv_X) : Prop := ∀ p, p ∈ X → p.1 < s ∧ xe_1 A p.1 ≤ p.2
def cv_in (X : cv_X) (t : Nat) : Prop := ∃ c, (t, c) ∈ X
theorem cv_n_cons {p : Nat × Nat} {X : cv_X} : cv_n (p :: X) = p.2 + cv_n X := by unfold cv_n; rw [List.map_cons, List.sum_cons]
theorem cv_in_cons {t c : Nat} {X : cv_X} : cv_in ((t, c) :: X) t := ⟨c, by simp⟩
theorem cv_in_tl {t : Nat} {p : Nat × Nat} {X : cv_X} (h : cv_in X t) : cv_in (p :: X) t := by obtain ⟨c, h⟩ := h; exact ⟨c, by simp [h]⟩
theorem xe_ok_congr {tc : Nat → Nat} {nt : Nat} {A A' : xe_A} {s : Nat} {st : cp_St} (h : xe_ok tc nt A s st) (e : ∀ a, a < s → A' a = A a) : xe_ok tc nt A' s st := by
  obtain ⟨op, l, r, size, ls, k, v⟩ := st
  have hop : op ≤ 12 := by
    refine Nat.not_lt.mp fun h' => ?_
    obtain ⟨j, hj⟩ : ∃ j, op = j + 13 := ⟨op - 13, by omega⟩
    subst hj
    exact h
  have o13 : op = 0 ∨ op = 1 ∨ op = 2 ∨ op = 3 ∨ op = 4 ∨ op = 5 ∨ op = 6 ∨ op = 7 ∨ op = 8 ∨ op = 9 ∨ op = 10 ∨ op = 11 ∨ op = 12 := by omega
  rcases o13 with rfl | rfl | rfl | rfl | rfl | rfl | rfl | rfl | rfl | rfl | rfl | rfl | rfl
  · exact h
  · exact h
  · exact h
  · obtain ⟨x, h1, h2, h3, h4, h5⟩ := h; exact ⟨x, h1, h2, h3, h4, by rw [e x h3]; exact h5⟩
  · obtain ⟨x, h1, h2, h3, h4, h5⟩ := h; exact ⟨x, h1, h2, h3, h4, by rw [e x h3]; exact h5⟩
  · obtain ⟨x, h1, h2, h3, h4, h5⟩ := h; exact ⟨x, h1, h2, h3, h4, by rw [e x h3]; exact h5⟩
  · obtain ⟨x, y, k', h1, h2, h3, h4, h5, h6, h7, h8, h9⟩ := h; exact ⟨x, y, k', h1, h2, h3, h4, h5, h6, by rw [e y h4]; exact h7, by rw [e x h3]; exact h8, h9⟩
  · obtain ⟨x, y, h1, h2, h3, h4, h5⟩ := h; exact ⟨x, y, h1, h2, h3, h4, by rw [e x h3, e y h4]; exact h5⟩
  · obtain ⟨x, y, h1, h2, h3, h4, h5⟩ := h; exact ⟨x, y, h1, h2, h3, h4, by rw [e x h3, e y h4]; exact h5⟩
  · obtain ⟨x, y, h1, h2, h3, h4, h5⟩ := h; exact ⟨x, y, h1, h2, h3, h4, by rw [e x h3, e y h4]; exact h5⟩
  · obtain ⟨x, h1, h2, h3, h4⟩ := h; exact ⟨x, h1, h2, h3, by rw [e x h3]; exact h4⟩
  · obtain ⟨x, k', c, h1, h2, h3, h4, h5, h6, h7, h8, h9, h10⟩ := h; exact ⟨x, k', c, h1, h2, h3, h4, h5, by rw [e x h3]; exact h6, h7, h8, h9, by rw [e x h3]; exact h10⟩
  · obtain ⟨x, m, h1, h2, h3, h4, h5⟩ := h; exact ⟨x, m, h1, h2, h3, by rw [e x h3]; exact h4, h5⟩
theorem ex_step_congr {tc : Nat → Nat} {tb : Nat → List ay_Row} {nt : Nat} {A A' : xe_A} {s : Nat} {st : cp_St} (h : xe_ok tc nt A s st) (e : ∀ a, a < s → A' a = A a) : ex_step tc tb A' st = ex_step tc tb A st := by
  obtain ⟨op, l, r, size, ls, k, v⟩ := st
  have hop : op ≤ 12 := by
    refine Nat.not_lt.mp fun h' => ?_
    obtain ⟨j, hj⟩ : ∃ j, op = j + 13 := ⟨op - 13, by omega⟩
    subst hj
    exact h
  have o13 : op = 0 ∨ op = 1 ∨ op = 2 ∨ op = 3 ∨ op = 4 ∨ op = 5 ∨ op = 6 ∨ op = 7 ∨ op = 8 ∨ op = 9 ∨ op = 10 ∨ op = 11 ∨ op = 12 := by omega
  rcases o13 with rfl | rfl | rfl | rfl | rfl | rfl | rfl | rfl | rfl | rfl | rfl | rfl | rfl
  · rfl
  · rfl
  · obtain ⟨x, y, rfl, rfl, h3, h4⟩ := h; simp only [ex_step, Option.getD_some, e x h3, e y h4]
  · obtain ⟨x, rfl, rfl, h3, -⟩ := h; simp only [ex_step, Option.getD_some, e x h3]
  · obtain ⟨x, rfl, rfl, h3, -⟩ := h; simp only [ex_step, Option.getD_some, e x h3]
  · obtain ⟨x, rfl, rfl, h3, -⟩ := h; simp only [ex_step, Option.getD_some, e x h3]
  · obtain ⟨x, y, k', rfl, rfl, h3, h4, -⟩ := h; simp only [ex_step, Option.getD_some, e x h3, e y h4]
  · obtain ⟨x, y, rfl, rfl, h3, h4, -⟩ := h; simp only [ex_step, Option.getD_some, e x h3, e y h4]
  · obtain ⟨x, y, rfl, rfl, h3, h4, -⟩ := h; simp only [ex_step, Option.getD_some, e x h3, e y h4]
  · obtain ⟨x, y, rfl, rfl, h3, h4, -⟩ := h; simp only [ex_step, Option.getD_some, e x h3, e y h4]
  · obtain ⟨x, rfl, rfl, h3, -⟩ := h; simp only [ex_step, Option.getD_some, e x h3]
  · obtain ⟨x, k', c, rfl, rfl, h3, -⟩ := h; simp only [ex_step, Option.getD_some, e x h3]
  · obtain ⟨x, m, rfl, rfl, h3, -⟩ := h; simp only [ex_step, Option.getD_some, e x h3]
section CV
variable (tc : Nat → Nat) (tb : Nat → List ay_Row) (nt : Nat)
def cv_s (L : List cp_St) (X : cv_X) (B s : Nat) (st : cp_St) : Prop :=
  xe_ok tc nt (ex_at tc tb L) s st ∧ ex_at tc tb L s = ex_step tc tb (ex_at tc tb L) st ∧ sl_W (ex_at tc tb L s).1 (ex_at tc tb L s).2 ∧ (ex_at tc tb L s).2.length ≤ 8192 ∧ (ex_at tc tb L s).1 < 100000 ∧
  ∃ Y : cv_X, (∀ t, t < s → (cv_in X t ∨ ∃ (k : Nat) (st' : cp_St), s ≤ k ∧ L[k]? = some st' ∧ cv_rf st' t) → cv_in Y t) ∧ cv_x (ex_at tc tb L) s Y ∧ cv_n Y + xe_1 (ex_at tc tb L) s ≤ B
def cv (L : List cp_St) (X : cv_X) (B : Nat) : Prop := cv_x (ex_at tc tb L) L.length X ∧ ∀ (s : Nat) (st : cp_St), L[s]? = some st → cv_s tc tb nt L X B s st
/-- what step s makes -/
def cv_at (L : List cp_St) (s w : Nat) (R : List ay_Row) : Prop := s < L.length ∧ ex_at tc tb L s = (w, R)
end CV
section CV
variable {tc : Nat → Nat} {tb : Nat → List ay_Row} {nt : Nat}
theorem cv_at_app {L : List cp_St} {s w : Nat} {R : List ay_Row} (h : cv_at tc tb L s w R) (K : List cp_St) : cv_at tc tb (L ++ K) s w R := ⟨by rw [List.length_append]; have := h.1; omega, by rw [ex_at_app h.1]; exact h.2⟩
theorem cv_sub {L : List cp_St} {X Z : cv_X} {B : Nat} (h : cv tc tb nt L X B) (hZ : ∀ p, p ∈ Z → p ∈ X) : cv tc tb nt L Z B := by
  refine ⟨fun p hp => h.1 p (hZ p hp), fun s st hs => ?_⟩
  obtain ⟨h1, h2, h3, h4, h5, Y, h6, h7⟩ := h.2 s st hs
  refine ⟨h1, h2, h3, h4, h5, Y, fun t ht hq => h6 t ht ?_, h7⟩
  rcases hq with ⟨c, hc⟩ | hq
  · exact Or.inl ⟨c, hZ _ hc⟩
  · exact Or.inr hq
/-- one step more -/
theorem cv_emit {L : List cp_St} {X Z : cv_X} {B w : Nat} {R : List ay_Row} {st : cp_St} (h : cv tc tb nt L X B) (hst : ex_step tc tb (ex_at tc tb L) st = (w, R)) (hok : xe_ok tc nt (ex_at tc tb L) L.length st) (hW : sl_W w R) (hr : R.length ≤ 8192) (hw : w < 100000) (href : ∀ a, cv_rf st a → cv_in X a) (hsz : cv_n X + R.length * w ≤ B) (hZ : ∀ p, p ∈ Z → p ∈ X) :
    cv tc tb nt (L ++ [st]) ((L.length, R.length * w) :: Z) B ∧ cv_at tc tb (L ++ [st]) L.length w R := by
  have ag : ∀ a, a < L.length → ex_at tc tb (L ++ [st]) a = ex_at tc tb L a := fun a ha => ex_at_app ha _
  have new : ex_at tc tb (L ++ [st]) L.length = (w, R) := by rw [ex_at_new]; exact hst
  have x1 : ∀ a, a < L.length → xe_1 (ex_at tc tb (L ++ [st])) a = xe_1 (ex_at tc tb L) a := fun a ha => by unfold xe_1; rw [ag a ha]
  refine ⟨⟨fun p hp => ?_, fun s st' hs => ?_⟩, by simp, new⟩
  · rw [List.length_append]
    rcases List.mem_cons.mp hp with rfl | hp
    · refine ⟨by simp, ?_⟩
      unfold xe_1
      rw [new]; exact Nat.le_refl _
    · have := h.1 p (hZ p hp)
      exact ⟨by omega, by rw [x1 _ this.1]; exact this.2⟩
  · have hsl : s < (L ++ [st]).length := (List.getElem?_eq_some_iff.mp hs).1
    rw [List.length_append] at hsl
    have hsl : s < L.length + 1 := hsl
    have live : ∀ t, t < L.length → (cv_in ((L.length, R.length * w) :: Z) t ∨ ∃ (k : Nat) (st'' : cp_St), s ≤ k ∧ (L ++ [st])[k]? = some st'' ∧ cv_rf st'' t) → cv_in X t ∨ ∃ (k : Nat) (st'' : cp_St), s ≤ k ∧ L[k]? = some st'' ∧ cv_rf st'' t := fun t ht hq => by
      rcases hq with ⟨c, hc⟩ | ⟨k, st'', k1, k2, k3⟩
      · rcases List.mem_cons.mp hc with e | hc
        · injection e with e1 e2; omega
        · exact Or.inl ⟨c, hZ _ hc⟩
      · by_cases hk : k < L.length
        · rw [List.getElem?_append_left hk] at k2
          exact Or.inr ⟨k, st'', k1, k2, k3⟩
        · rw [List.getElem?_append_right (by omega)] at k2
          have e : st'' = st := by
            cases hh : k - L.length with
            | zero => rw [hh] at k2; simpa using k2.symm
            | succ j => rw [hh] at k2; simp at k2
          rw [e] at k3
          exact Or.inl (href t k3)
    by_cases e : s < L.length
    · rw [List.getElem?_append_left e] at hs
      obtain ⟨h1, h2, h3, h4, h5, Y, h6, h7, h8⟩ := h.2 s st' hs
      have ok' := xe_ok_congr h1 (A' := ex_at tc tb (L ++ [st])) fun a ha => ag a (by omega)
      refine ⟨ok', ?_, by rw [ag s e]; exact h3, by rw [ag s e]; exact h4, by rw [ag s e]; exact h5, Y, fun t ht hq => h6 t ht (live t (by omega) hq), fun p hp => ?_, by rw [x1 s e]; exact h8⟩
      · rw [ag s e, h2]
        exact (ex_step_congr h1 fun a ha => ag a (by omega)).symm
      · have := h7 p hp
        exact ⟨this.1, by rw [x1 _ (by omega)]; exact this.2⟩
    · have es : s = L.length := by omega
      subst es
      have e' : st' = st := by
        rw [List.getElem?_append_right (Nat.le_refl _), Nat.sub_self] at hs
        simpa using hs.symm
      subst e'
      have ok' := xe_ok_congr hok (A' := ex_at tc tb (L ++ [st'])) fun a ha => ag a ha
      refine ⟨ok', ?_, by rw [new]; exact hW, by rw [new]; exact hr, by rw [new]; exact hw, X, fun t ht hq => ?_, fun p hp => ?_, ?_⟩
      · rw [new, ← hst]
        exact (ex_step_congr hok fun a ha => ag a ha).symm
      · rcases live t ht hq with q | ⟨k, st'', k1, k2, -⟩
        · exact q
        · have := (List.getElem?_eq_some_iff.mp k2).1; omega
      · have := h.1 p hp
        exact ⟨this.1, by rw [x1 _ this.1]; exact this.2⟩
      · unfold xe_1
        rw [new]; exact hsz
theorem cv_sum {A : xe_A} {s : Nat} : ∀ (l : List Nat) (Y : cv_X), l.Nodup → (∀ t, t ∈ l → cv_in Y t) → cv_x A s Y → xe_sz A l ≤ cv_n Y
  | [], _, _, _, _ => by rw [xe_sz_nil]; exact Nat.zero_le _
  | t :: l, Y, hn, hin, hx => by
    rw [List.nodup_cons] at hn
    obtain ⟨c, hc⟩ := hin t (by simp)
    have pe := List.perm_cons_erase hc
    have e1 : cv_n Y = c + cv_n (Y.erase (t, c)) := by
      have : cv_n Y = cv_n ((t, c) :: Y.erase (t, c)) := by unfold cv_n; exact (pe.map _).sum_nat
      rw [this, cv_n_cons]
    rw [xe_sz_cons, e1]
    have h1 := (hx _ hc).2
    have h2 := cv_sum l (Y.erase (t, c)) hn.2 (fun u hu => by
      obtain ⟨c', hc'⟩ := hin u (by simp [hu])
      refine ⟨c', (List.mem_erase_of_ne ?_).mpr hc'⟩
      intro e
      injection e with e1 e2
      rw [e1] at hu
      exact hn.1 hu) (fun p hp => hx p (List.mem_of_mem_erase hp))
    have h1 : xe_1 A t ≤ c := h1
    omega
theorem xe_nd_rf {Ls : List cp_St} {t : Nat} : ∀ (k : Nat), 0 < xe_nd Ls k t → xe_nd Ls k t = t ∨ ∃ st, Ls[xe_nd Ls k t]? = some st ∧ cv_rf st t
  | 0, h => by unfold xe_nd at h; omega
  | k + 1, h => by
    unfold xe_nd at h ⊢
    split
    · rename_i q
      rcases q with q | q
      · exact Or.inl q
      · right
        unfold xe_rb at q
        cases hs : Ls[k]? with
        | none => rw [hs] at q; cases q
        | some st =>
          rw [hs] at q
          refine ⟨st, rfl, ?_⟩
          unfold cv_rf
          simpa using q
    · rename_i q
      rw [if_neg q] at h
      exact xe_nd_rf k h
/-- what the run wants -/
theorem cv_end {L : List cp_St} {X : cv_X} {last : Nat} (h : cv tc tb nt L X 600000) (hl : cv_in X last) : ∀ (s : Nat) (st : cp_St), L[s]? = some st → xe_ok tc nt (ex_at tc tb L) s st ∧ ex_at tc tb L s = ex_step tc tb (ex_at tc tb L) st ∧ sl_W (ex_at tc tb L s).1 (ex_at tc tb L s).2 ∧ (ex_at tc tb L s).2.length ≤ 8192 ∧ (ex_at tc tb L s).1 < 100000 ∧ xe_sz (ex_at tc tb L) (xe_lv L last s) + xe_1 (ex_at tc tb L) s ≤ 600000 := by
  intro s st hs
  obtain ⟨h1, h2, h3, h4, h5, Y, h6, h7, h8⟩ := h.2 s st hs
  refine ⟨h1, h2, h3, h4, h5, ?_⟩
  have nd : (xe_lv L last s).Nodup := by
    have := xe_lv_nodup (Ls := L) (last := last) (s := s)
    rw [List.nodup_append] at this
    exact this.1
  have := cv_sum (A := ex_at tc tb L) (xe_lv L last s) Y nd (fun t ht => ?_) h7
  · omega
  · unfold xe_lv at ht
    rw [List.mem_filter, List.mem_range, decide_eq_true_eq] at ht
    obtain ⟨t1, t2⟩ := ht
    refine h6 t t1 ?_
    unfold xe_ND at t2
    split at t2
    · rename_i e; rw [e]; exact Or.inl hl
    · right
      have hp : 0 < xe_nd L L.length t := by omega
      rcases xe_nd_rf L.length hp with e | ⟨st', e1, e2⟩
      · omega
      · exact ⟨_, st', t2, e1, e2⟩
end CV
