/-! STEPS: what each makes (ex_), and how a bag is turned into them (cp_) -/
/-- op, left, right, size, list, kind, value -/
abbrev cp_St : Type := Nat × Option Nat × Option Nat × Nat × List Int32 × Int32 × Int32
abbrev cp_S : Type := List cp_St × Nat
/-- whether it is the unit, step, width, places -/
abbrev cp_X : Type := Bool × Nat × Nat × (Nat → Nat)
def cp_sp (n : Nat) : List Int32 := (List.range n).map nI
def cp_sel (l : Nat) (p : List Int32) : cp_St := (3, some l, none, p.length, p, 0, 0)
def cp_ext (l : Nat) (p : List Int32) : cp_St := (4, some l, none, p.length, p, 0, 0)
def cp_pick (l : Nat) (p : List Int32) : cp_St := (5, some l, none, p.length, p, 0, 0)
def cp_join (k : Int32) (l r : Nat) (p : List Int32) (v : Int32) : cp_St := (6, some l, some r, p.length, p, k, v)
def cp_set (op l r : Nat) : cp_St := (op, some l, some r, 0, [], 0, 0)
def cp_uniq (l : Nat) : cp_St := (10, some l, none, 0, [], 0, 0)
def cp_gath (l : Nat) (p : List Int32) (f c : Int32) : cp_St := (11, some l, none, p.length, p, f, c)
def cp_top (l n : Nat) (v : Int32) : cp_St := (12, some l, none, n, [], 0, v)
def cp_laid (k : Int32) : cp_St := (1, none, none, 0, [], k, 0)
def cp_unit : cp_St := (0, none, none, 0, [], 0, 0)
def cp_bits (l : Nat) : List Nat := (List.range 32).filter (fun k => l.testBit k)
def cp_rank (l k : Nat) : Nat := ((List.range k).filter (fun j => l.testBit j)).length
def cp_cl (l : Nat) (pl : Nat → Nat) : List Int32 := (cp_bits l).map (fun k => nI (pl k))
def cp_ch (l e : Nat) (pl : Nat → Nat) (σ : cp_S) : cp_S := (σ.1 ++ [cp_pick e (cp_cl l pl), cp_uniq σ.1.length], σ.2 + (cp_bits l).length)
def cp_chX (l : Nat) (σ : cp_S) : cp_X := (false, σ.1.length + 1, (cp_bits l).length, cp_rank l)
def cp_fold (s : Nat) (ls : List Int32) (kind col : Nat) (σ : cp_S) : Nat × cp_S :=
  if kind < 5 then (σ.1.length, (σ.1 ++ [cp_gath s ls (nI kind) (nI col)], σ.2))
  else (σ.1.length + 2, (σ.1 ++ [cp_pick s (ls ++ [nI col]), cp_uniq σ.1.length, cp_gath (σ.1.length + 1) (cp_sp ls.length) 1 (nI ls.length)], σ.2 + (ls.length + 1) + ls.length))
def cp_no (kind : Nat) : Int32 := if kind = 0 ∨ kind = 1 ∨ kind = 5 then 0 else (-2147483648 : Int32)
def cp_apl (x : cp_X) : Nat → Nat := fun k => if k < 8 then x.2.2.1 + k else x.2.2.2 (k - 8)
def cp_U : cp_X := (true, 0, 0, fun _ => 0)
abbrev cp_B : Type := Nat → cp_X → cp_S → Nat × cp_S
abbrev cp_A : Type := Nat → Nat → Nat → (Nat → Nat) → cp_S → (Nat × Nat × List Nat) × cp_S
/-! programs -/
def cp_wr (T : Nat → sm_T) : Nat → Nat → (Nat → Nat) → List Nat → List Int32 × List Nat
  | 0, _, _, fs => ([], fs)
  | n + 1, t, pl, fs => match sm_k (T t) with
    | 0 => ([0, sm_n (T t)], fs)
    | 1 => ([1, nI (pl (sm_n (T t)).toNatClampNeg)], fs)
    | 3 => cp_wr T n (sm_a (T t)) pl fs
    | 4 => ([1, nI (fs.headD 0)], fs.tail)
    | 6 => ((cp_wr T n (sm_a (T t)) pl fs).1 ++ [4], (cp_wr T n (sm_a (T t)) pl fs).2)
    | 8 => ([1, nI (fs.headD 0)], fs.tail)
    | 9 => ([2, nI (fs.headD 0)], fs.tail)
    | 10 => ([3, nI (fs.headD 0)], fs.tail)
    | k => match (T t).2.2.2.1 with
      | none => ((cp_wr T n (sm_a (T t)) pl fs).1 ++ [nI ((if k = 2 then 5 else if k = 5 then 16 else 8) + sm_o (T t))], (cp_wr T n (sm_a (T t)) pl fs).2)
      | some b => ((cp_wr T n (sm_a (T t)) pl fs).1 ++ (cp_wr T n b pl (cp_wr T n (sm_a (T t)) pl fs).2).1 ++ [nI ((if k = 2 then 5 else if k = 5 then 16 else 8) + sm_o (T t))], (cp_wr T n b pl (cp_wr T n (sm_a (T t)) pl fs).2).2)
/-! inner questions -/
def cp_fld (T : Nat → sm_T) (bag : cp_B) (t e w : Nat) (pl : Nat → Nat) (σ : cp_S) : (Nat × Nat × List Nat) × cp_S :=
  let l := sm_l (T (sm_a (T t)))
  let n := (cp_bits l).length
  let r := bag (sm_a (T t)) (cp_chX l σ) (cp_ch l e pl σ)
  let f := cp_fold r.1 (cp_sp n) (sm_o (T t)) (n + sm_c (T t)) (r.2.1, r.2.2 + n)
  ((f.2.1.length, w + 1, [w]), (f.2.1 ++ [cp_join 1 e f.1 (cp_cl l pl) (cp_no (sm_o (T t)))], f.2.2))
def cp_has (T : Nat → sm_T) (bag : cp_B) (t e w : Nat) (pl : Nat → Nat) (σ : cp_S) : (Nat × Nat × List Nat) × cp_S :=
  let l := sm_l (T (sm_a (T t)))
  let n := (cp_bits l).length
  let r := bag (sm_a (T t)) (cp_chX l σ) (cp_ch l e pl σ)
  let k := r.2.1.length
  ((k + 2, w + 1, [w]), (r.2.1 ++ [cp_pick r.1 (cp_sp n), cp_uniq k, cp_join 4 e (k + 1) (cp_cl l pl) 0], r.2.2 + n))
def cp_mark (met e j n test : Nat) (li : List Int32) : List cp_St := [cp_sel met [1, nI n, 1, nI (n + 1), nI (16 + test)], cp_pick j (cp_sp (n + 1)), cp_uniq (j + 1), cp_join 4 e (j + 2) li 0]
def cp_qnt (T : Nat → sm_T) (bag : cp_B) (att : cp_A) (t e w : Nat) (pl : Nat → Nat) (σ : cp_S) : (Nat × Nat × List Nat) × cp_S :=
  let g := att (sm_a (T t)) e w pl σ
  let p := (cp_wr T (sm_a (T t) + 1) (sm_a (T t)) pl g.1.2.2).1
  let e2 := g.2.1.length
  let own := g.1.2.1
  let σ2 : cp_S := (g.2.1 ++ [cp_ext g.1.1 p], g.2.2 + p.length)
  let l := sm_l (T (sm_b (T t)))
  let n := (cp_bits l).length
  let r := bag (sm_b (T t)) (cp_chX l σ2) (cp_ch l e2 pl σ2)
  let li := cp_cl l pl ++ [nI own]
  let k := r.2.1.length
  let t1 := if sm_k (T t) = 9 then sm_o (T t) else 5 + sm_o (T t)
  ((k + 10, own + 3, [own + 1]), (r.2.1 ++ [cp_pick e2 li, cp_uniq k, cp_join 0 (k + 1) r.1 (cp_sp n) 0] ++ cp_mark (k + 2) e2 (k + 3) n t1 li ++ cp_mark (k + 2) (k + 6) (k + 7) n (10 + sm_o (T t)) li, r.2.2 + (n + 1) + n + (5 + (n + 1)) + (5 + (n + 1))))
def cp_att0 (T : Nat → sm_T) (bag : cp_B) (att : cp_A) (t e w : Nat) (pl : Nat → Nat) (σ : cp_S) : (Nat × Nat × List Nat) × cp_S := match sm_k (T t) with
  | 0 => ((e, w, []), σ)
  | 1 => ((e, w, []), σ)
  | 4 => cp_fld T bag t e w pl σ
  | 8 => cp_has T bag t e w pl σ
  | 9 => cp_qnt T bag att t e w pl σ
  | 10 => cp_qnt T bag att t e w pl σ
  | _ => match (T t).2.2.2.1 with
    | none => att (sm_a (T t)) e w pl σ
    | some b =>
      let g := att (sm_a (T t)) e w pl σ
      let h := att b g.1.1 g.1.2.1 pl g.2
      ((h.1.1, h.1.2.1, g.1.2.2 ++ h.1.2.2), h.2)
/-! bags -/
def cp_within (T : Nat → sm_T) (bag : cp_B) (att : cp_A) (fl : Bool) (a b : Nat) (x : cp_X) (σ : cp_S) : Nat × cp_S :=
  let r := bag a x σ
  let pl := cp_apl x
  let base := x.2.2.1 + sm_w (T a)
  let g := att b r.1 base pl r.2
  let p := (cp_wr T (b + 1) b pl g.1.2.2).1
  let made := g.2.1.length
  let σ2 : cp_S := (g.2.1 ++ [if fl then cp_sel g.1.1 p else cp_ext g.1.1 p], g.2.2 + p.length)
  if base < g.1.2.1 then
    let ls := if fl then cp_sp base else cp_sp base ++ [nI g.1.2.1]
    (made + 1, (σ2.1 ++ [cp_pick made ls], σ2.2 + ls.length))
  else (made, σ2)
def cp_apply (T : Nat → sm_T) (bag : cp_B) (k a b : Nat) (x : cp_X) (σ : cp_S) : Nat × cp_S :=
  let r := bag a x σ
  let pl := cp_apl x
  let l := sm_l (T b)
  let q := bag b (cp_chX l r.2) (cp_ch l r.1 pl r.2)
  (q.2.1.length, (q.2.1 ++ [cp_join (nI k) r.1 q.1 (cp_cl l pl) (-2147483648 : Int32)], q.2.2))
def cp_pairs (T : Nat → sm_T) (bag : cp_B) (a b : Nat) (x : cp_X) (σ : cp_S) : Nat × cp_S :=
  let r := bag a x σ
  if sm_l (T b) = 0 then
    let q := bag b cp_U r.2
    (q.2.1.length, (q.2.1 ++ [cp_set 2 r.1 q.1], q.2.2))
  else
    let q := bag b x r.2
    (q.2.1.length, (q.2.1 ++ [cp_join 0 r.1 q.1 (cp_sp x.2.2.1) 0], q.2.2 + x.2.2.1))
def cp_groups (T : Nat → sm_T) (bag : cp_B) (t : Nat) (x : cp_X) (σ : cp_S) : Nat × cp_S :=
  let r := bag (sm_a (T t)) x σ
  let ks := sm_ks (sm_n (T t))
  let ls := cp_sp x.2.2.1 ++ ks.map (fun c => nI (x.2.2.1 + c))
  let f := cp_fold r.1 ls (sm_o (T t)) (x.2.2.1 + sm_c (T t)) (r.2.1, r.2.2 + x.2.2.1 + ks.length)
  if ks = [] then (f.2.1.length, (f.2.1 ++ [cp_join 1 x.2.1 f.1 (cp_sp x.2.2.1) (cp_no (sm_o (T t)))], f.2.2 + x.2.2.1)) else f
def cp_sw (T : Nat → sm_T) (bag : cp_B) (att : cp_A) (t : Nat) (x : cp_X) (σ : cp_S) : Nat × cp_S := match sm_k (T t) with
  | 11 => (σ.1.length + 1, (σ.1 ++ [cp_laid (sm_n (T t)), cp_set 2 x.2.1 σ.1.length], σ.2))
  | 12 => cp_within T bag att true (sm_a (T t)) (sm_b (T t)) x σ
  | 13 => cp_within T bag att false (sm_a (T t)) (sm_b (T t)) x σ
  | 14 =>
    let r := bag (sm_a (T t)) x σ
    (r.2.1.length, (r.2.1 ++ [cp_pick r.1 (cp_sp x.2.2.1 ++ (List.range (sm_c (T t))).map (fun k => nI (x.2.2.1 + sm_col (sm_n (T t)) k)))], r.2.2 + x.2.2.1 + sm_c (T t)))
  | 15 => cp_pairs T bag (sm_a (T t)) (sm_b (T t)) x σ
  | 16 => cp_apply T bag (sm_o (T t)) (sm_a (T t)) (sm_b (T t)) x σ
  | 17 =>
    let r := bag (sm_a (T t)) x σ
    let q := bag (sm_b (T t)) x r.2
    (q.2.1.length, (q.2.1 ++ [cp_set (7 + sm_o (T t)) r.1 q.1], q.2.2))
  | 18 =>
    let r := bag (sm_a (T t)) x σ
    (r.2.1.length, (r.2.1 ++ [cp_uniq r.1], r.2.2))
  | 19 =>
    let r := bag (sm_a (T t)) x σ
    (r.2.1.length, (r.2.1 ++ [cp_top r.1 x.2.2.1 (sm_n (T t))], r.2.2))
  | _ => cp_groups T bag t x σ
def cp_bag0 (T : Nat → sm_T) (bag : cp_B) (att : cp_A) (t : Nat) (x : cp_X) (σ : cp_S) : Nat × cp_S :=
  if x.1 = false ∧ sm_l (T t) = 0 then
    let q := cp_sw T bag att t cp_U σ
    (q.2.1.length, (q.2.1 ++ [cp_set 2 x.2.1 q.1], q.2.2))
  else cp_sw T bag att t x σ
def cp (T : Nat → sm_T) : Nat → cp_B × cp_A
  | 0 => (fun _ _ σ => (0, σ), fun _ e w _ σ => ((e, w, []), σ))
  | n + 1 => (cp_bag0 T (cp T n).1 (cp T n).2, cp_att0 T (cp T n).1 (cp T n).2)
def cp_whole (T : Nat → sm_T) (t : Nat) : Nat × cp_S := (cp T (t + 1)).1 t cp_U ([cp_unit], 0)
/-! what steps make -/
def rk_test (k : Nat) (a b : Int32) : Int32 := if k < 5 then sm_cmp k a b else if k < 10 then (if sm_cmp (k - 5) a b = 0 then 1 else 0) else (if sm_cmp (k - 10) a b = (-2147483648 : Int32) then 1 else 0)
def rk_2 (k : Nat) (a b : Int32) : Int32 := if 16 ≤ k then rk_test (k - 16) a b else if 8 ≤ k then sm_logic (k - 8) a b else sm_reckon (k - 5) a b
def rk_1 (op : Int32) (s : List Int32) : List Int32 := match s with
  | [] => []
  | b :: s1 => if op = 4 then sm_isno b :: s1 else if op = 10 then sm_not b :: s1 else match s1 with
    | [] => []
    | a :: s2 => rk_2 op.toNatClampNeg a b :: s2
def rk_dec (yes : Int32) (r : ay_Row) (c : Nat) : Int32 := if r.getD c 0 = 1 then yes else if r.getD (c + 1) 0 = 1 then (-2147483648 : Int32) else 1 - yes
def rk (r : ay_Row) : List Int32 → List Int32 → List Int32
  | [], s => s
  | [op], s => rk_1 op s
  | op :: v :: p, s => if op = 0 then rk r p (v :: s) else if op = 1 then rk r p (r.getD v.toNatClampNeg 0 :: s) else if op = 2 then rk r p (rk_dec 1 r v.toNatClampNeg :: s) else if op = 3 then rk r p (rk_dec 0 r v.toNatClampNeg :: s) else rk r (v :: p) (rk_1 op s)
def ex_prog (p : List Int32) (r : ay_Row) : Int32 := (rk r p []).headD 0
def ex_key (ls : List Int32) (r : ay_Row) : ay_Row := ls.map (fun c => r.getD c.toNatClampNeg 0)
def ex_apart (sh : Bool) : List ay_Row → List ay_Row → List ay_Row
  | [], _ => []
  | x :: L, R => if x ∈ R then (if sh then x :: ex_apart sh L (R.erase x) else ex_apart sh L (R.erase x)) else (if sh then ex_apart sh L R else x :: ex_apart sh L R)
def ex_top (n m : Nat) : Option ay_Row → Nat → List ay_Row → List ay_Row
  | _, _, [] => []
  | p, c, x :: R => let c' := if p.map (List.take n) = some (x.take n) then c + 1 else 0
    if c' < m then x :: ex_top n m (some x) c' R else ex_top n m (some x) c' R
def ex_more (k wr n : Nat) : Nat := if k ≤ 1 then wr - n else if k = 4 then 1 else 0
def ex_mt (ls : List Int32) (R : List ay_Row) (x : ay_Row) : List ay_Row := R.filter (fun y => y.take ls.length == ex_key ls x)
def ex_join1 (k : Nat) (ls : List Int32) (v : Int32) (wr : Nat) (R : List ay_Row) (x : ay_Row) : List ay_Row :=
  if k ≤ 1 ∧ ex_mt ls R x ≠ [] then (ex_mt ls R x).map (fun y => x ++ y.drop ls.length)
  else if k = 4 ∨ k = 1 ∨ (k = 2 ∧ ex_mt ls R x ≠ []) ∨ (k = 3 ∧ ex_mt ls R x = []) then [x ++ List.replicate (ex_more k wr ls.length) (if k = 4 then (if ex_mt ls R x = [] then 0 else 1) else v)]
  else []
def ex_gath (ls : List Int32) (k c : Nat) (L : List ay_Row) : List ay_Row := (sm_once (L.map (ex_key ls))).map (fun q => q ++ [sm_fold k (sm_at c (L.filter (fun x => ex_key ls x == q)))])
def ex_step (tc : Nat → Nat) (tb : Nat → List ay_Row) (A : Nat → Nat × List ay_Row) (st : cp_St) : Nat × List ay_Row := match st with
  | (op, l, r, size, ls, k, v) => match op with
    | 0 => (0, [[]])
    | 1 => (tc k.toNatClampNeg, tb k.toNatClampNeg)
    | 2 => ((A (l.getD 0)).1 + (A (r.getD 0)).1, (A (l.getD 0)).2.flatMap (fun x => (A (r.getD 0)).2.map (fun y => x ++ y)))
    | 3 => ((A (l.getD 0)).1, (A (l.getD 0)).2.filter (fun x => ex_prog ls x == 1))
    | 4 => ((A (l.getD 0)).1 + 1, (A (l.getD 0)).2.map (fun x => x ++ [ex_prog ls x]))
    | 5 => (size, (A (l.getD 0)).2.map (ex_key ls))
    | 6 => ((A (l.getD 0)).1 + ex_more k.toNatClampNeg (A (r.getD 0)).1 ls.length, (A (l.getD 0)).2.flatMap (ex_join1 k.toNatClampNeg ls v (A (r.getD 0)).1 (A (r.getD 0)).2))
    | 7 => ((A (l.getD 0)).1, (A (l.getD 0)).2 ++ (A (r.getD 0)).2)
    | 8 => ((A (l.getD 0)).1, ex_apart false (A (l.getD 0)).2 (A (r.getD 0)).2)
    | 9 => ((A (l.getD 0)).1, ex_apart true (A (l.getD 0)).2 (A (r.getD 0)).2)
    | 10 => ((A (l.getD 0)).1, sm_once (A (l.getD 0)).2)
    | 11 => (size + 1, ex_gath ls k.toNatClampNeg v.toNatClampNeg (A (l.getD 0)).2)
    | _ => ((A (l.getD 0)).1, ex_top size v.toNatClampNeg none 0 (sm_srt (A (l.getD 0)).2))
def ex_run (tc : Nat → Nat) (tb : Nat → List ay_Row) (L : List cp_St) : List (Nat × List ay_Row) := L.foldl (fun acc st => acc ++ [ex_step tc tb (fun i => acc.getD i (0, [])) st]) []
def ex_at (tc : Nat → Nat) (tb : Nat → List ay_Row) (L : List cp_St) (s : Nat) : Nat × List ay_Row := (ex_run tc tb L).getD s (0, [])
theorem ex_run_snoc (tc : Nat → Nat) (tb : Nat → List ay_Row) (L : List cp_St) (st : cp_St) : ex_run tc tb (L ++ [st]) = ex_run tc tb L ++ [ex_step tc tb (ex_at tc tb L) st] := by
  unfold ex_run
  rw [List.foldl_append]
  rfl
theorem ex_run_len (tc : Nat → Nat) (tb : Nat → List ay_Row) (L : List cp_St) : (ex_run tc tb L).length = L.length := by
  refine sm_snoc (P := fun L => (ex_run tc tb L).length = L.length) rfl (fun L st ih => ?_) L
  rw [ex_run_snoc, List.length_append, List.length_append, ih]; rfl
theorem ex_at_app {tc : Nat → Nat} {tb : Nat → List ay_Row} {L : List cp_St} {s : Nat} (h : s < L.length) (M : List cp_St) : ex_at tc tb (L ++ M) s = ex_at tc tb L s := by
  refine sm_snoc (P := fun M => ex_at tc tb (L ++ M) s = ex_at tc tb L s) (by rw [List.append_nil]) (fun M st ih => ?_) M
  rw [← List.append_assoc, ← ih]
  unfold ex_at
  rw [ex_run_snoc, List.getD_eq_getElem?_getD, List.getD_eq_getElem?_getD, List.getElem?_append_left]
  rw [ex_run_len, List.length_append]; omega
theorem ex_at_new {tc : Nat → Nat} {tb : Nat → List ay_Row} (L : List cp_St) (st : cp_St) : ex_at tc tb (L ++ [st]) L.length = ex_step tc tb (ex_at tc tb L) st := by
  unfold ex_at
  rw [ex_run_snoc, List.getD_eq_getElem?_getD, List.getElem?_append_right (by rw [ex_run_len]; exact Nat.le_refl _), ex_run_len, Nat.sub_self]
  rfl
