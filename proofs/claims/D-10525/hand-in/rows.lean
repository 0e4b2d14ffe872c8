section
/-! the pure picture: a list of columns; ray k is the unit of column L[k] -/
def fx_bit (c : Nat) : Int32 := (1 : Int32) <<< (nI c &&& 31)
def fx_Rep (L : List Nat) (a4 a5 : Nat → Int32) : Prop :=
  ∀ k, k < L.length → a5 k = fx_bit (L.getD k 0) ∧ ∀ j, j < 8 → a4 (8 * k + j) = if j = L.getD k 0 then 1 else 0
/-- what column j must answer to stay behind s balances -/
def fx_q (on tab : Nat → Int32) : Nat → Nat → Bool
  | 0, j => decide (¬ on j = 0)
  | s + 1, j => decide (tab (8 * s + j) = 0) && fx_q on tab s j
def fx_L (on tab : Nat → Int32) (R s : Nat) : List Nat := (List.range R).filter (fx_q on tab s)
theorem fx_ix (k j : Nat) : 8 * nI k + nI j = nI (8 * k + j) := by
  rw [show (8 : Int32) = nI 8 from rfl, pk_mul, nI_add]
theorem fx_sup : ∀ c, c < 8 → ¬ (fx_bit c &&& ((((fx_bit c ||| (fx_bit c >>> ((8 : Int32) &&& 31))) &&& 255)) &&& (-((fx_bit c ||| (fx_bit c >>> ((8 : Int32) &&& 31))) &&& 255)))) = 0 := by
  decide +kernel
theorem fx_L_len (on tab : Nat → Int32) (R s : Nat) : (fx_L on tab R s).length ≤ R := by
  have h := List.length_filter_le (fx_q on tab s) (List.range R)
  rw [List.length_range] at h
  exact h
theorem fx_L_mem {on tab : Nat → Int32} {R s c : Nat} (h : c ∈ fx_L on tab R s) : c < R := by
  have h1 := (List.mem_filter.mp h).1
  exact List.mem_range.mp h1
theorem fx_L_succ (on tab : Nat → Int32) (R s : Nat) : fx_L on tab R (s + 1) = (fx_L on tab R s).filter (fun j => decide (tab (8 * s + j) = 0)) := by
  unfold fx_L
  rw [List.filter_filter]
  rfl
theorem fx_L_on (on tab : Nat → Int32) (i : Nat) (h : ¬ on i = 0) : fx_L on tab (i + 1) 0 = fx_L on tab i 0 ++ [i] := by
  unfold fx_L
  rw [List.range_succ, List.filter_append]
  have e : fx_q on tab 0 i = true := decide_eq_true h
  rw [List.filter_cons_of_pos e, List.filter_nil]
theorem fx_L_off (on tab : Nat → Int32) (i : Nat) (h : on i = 0) : fx_L on tab (i + 1) 0 = fx_L on tab i 0 := by
  unfold fx_L
  rw [List.range_succ, List.filter_append]
  have e : ¬ fx_q on tab 0 i = true := fun g => (of_decide_eq_true g) h
  rw [List.filter_cons_of_neg e, List.filter_nil, List.append_nil]
theorem fx_q_iff {on tab : Nat → Int32} {s j : Nat} : fx_q on tab s j = true ↔ (¬ on j = 0) ∧ ∀ t, t < s → tab (8 * t + j) = 0 := by
  induction s with
  | zero => 
    constructor
    · intro h
      exact ⟨of_decide_eq_true h, fun t ht => absurd ht (by omega)⟩
    · intro h
      exact decide_eq_true h.1
  | succ s ih =>
    have e : fx_q on tab (s + 1) j = (decide (tab (8 * s + j) = 0) && fx_q on tab s j) := rfl
    rw [e, Bool.and_eq_true, ih]
    constructor
    · intro h
      refine ⟨h.2.1, fun t ht => ?_⟩
      by_cases et : t = s
      · rw [et]
        exact of_decide_eq_true h.1
      · exact h.2.2 t (by omega)
    · intro h
      exact ⟨decide_eq_true (h.2 s (by omega)), h.1, fun t ht => h.2 t (by omega)⟩
theorem fx_len_all {on tab : Nat → Int32} {R M : Nat} (h : ∀ j, j < R → (¬ on j = 0) ∧ ∀ t, t < M → tab (8 * t + j) = 0) : (fx_L on tab R M).length = R := by
  unfold fx_L
  rw [List.filter_eq_self.mpr (fun a ha => fx_q_iff.mpr (h a (List.mem_range.mp ha))), List.length_range]
theorem fx_cnt : ∀ R, R < 9 → ∀ j, j < R → ((List.range R).filter (fun i => decide (¬ i = j))).length = R - 1 := by
  decide +kernel
theorem fx_len_but {on tab : Nat → Int32} {R M j0 : Nat} (hR : R ≤ 8) (hj : j0 < R) (h : ∀ j, j < R → (((¬ on j = 0) ∧ ∀ t, t < M → tab (8 * t + j) = 0) ↔ ¬ j = j0)) : (fx_L on tab R M).length = R - 1 := by
  have e : fx_L on tab R M = (List.range R).filter (fun i => decide (¬ i = j0)) := by
    unfold fx_L
    refine List.filter_congr (fun x hx => ?_)
    have g := h x (List.mem_range.mp hx)
    rw [← fx_q_iff] at g
    by_cases ex : x = j0
    · rw [decide_eq_false (fun z => z ex)]
      exact Bool.eq_false_iff.mpr (fun z => (g.mp z) ex)
    · rw [decide_eq_true ex]
      exact g.mpr ex
  rw [e]
  exact fx_cnt R (by omega) j0 hj
theorem fx_getD {L : List Nat} {k : Nat} (h : k < L.length) : L.getD k 0 = L[k] := by
  rw [List.getD_eq_getElem?_getD, List.getElem?_eq_getElem h]
  rfl
theorem fx_getD_lt {L : List Nat} {R k : Nat} (h : ∀ c, c ∈ L → c < R) (hk : k < L.length) : L.getD k 0 < R := by
  rw [fx_getD hk]
  exact h _ (List.getElem_mem hk)
theorem fx_rep_nil {a4 a5 : Nat → Int32} : fx_Rep [] a4 a5 := fun k hk => absurd hk (Nat.not_lt_zero k)
theorem fx_rep_snoc {L : List Nat} {a4 a5 a4' a5' : Nat → Int32} {c : Nat} (h : fx_Rep L a4 a5) (h4 : ∀ p, p < 8 * L.length → a4' p = a4 p) (h4n : ∀ j, j < 8 → a4' (8 * L.length + j) = if j = c then 1 else 0) (h5 : ∀ k, k < L.length → a5' k = a5 k) (h5n : a5' L.length = fx_bit c) : fx_Rep (L ++ [c]) a4' a5' := by
  intro k hk
  rw [List.length_append, List.length_singleton] at hk
  by_cases e : k = L.length
  · have g : (L ++ [c]).getD k 0 = c := by
      rw [e, List.getD_eq_getElem?_getD, List.getElem?_append_right (Nat.le_refl _), Nat.sub_self]
      rfl
    rw [g, e]
    exact ⟨h5n, h4n⟩
  · have hk' : k < L.length := by omega
    have g : (L ++ [c]).getD k 0 = L.getD k 0 := by
      rw [List.getD_eq_getElem?_getD, List.getElem?_append_left hk', ← List.getD_eq_getElem?_getD]
    rw [g, h5 k hk']
    refine ⟨(h k hk').1, fun j hj => ?_⟩
    rw [h4 _ (by omega)]
    exact (h k hk').2 j hj
theorem fx_take {L : List Nat} {i : Nat} (h : i < L.length) : L.take (i + 1) = L.take i ++ [L.getD i 0] := by
  rw [fx_getD h, List.take_append_getElem h]
theorem fx_keep_t {L : List Nat} {i : Nat} {Q : Nat → Bool} (h : i < L.length) (hq : Q (L.getD i 0) = true) : (L.take (i + 1)).filter Q = (L.take i).filter Q ++ [L.getD i 0] := by
  rw [fx_take h, List.filter_append, List.filter_cons_of_pos hq, List.filter_nil]
theorem fx_keep_f {L : List Nat} {i : Nat} {Q : Nat → Bool} (h : i < L.length) (hq : ¬ Q (L.getD i 0) = true) : (L.take (i + 1)).filter Q = (L.take i).filter Q := by
  rw [fx_take h, List.filter_append, List.filter_cons_of_neg hq, List.filter_nil, List.append_nil]
theorem fx_kept_le (L : List Nat) (i : Nat) (Q : Nat → Bool) : ((L.take i).filter Q).length ≤ i := by
  have h1 := List.length_filter_le Q (L.take i)
  have h2 := List.length_take_le i L
  omega
theorem fx_sign {v : Int32} {x p q : Nat} : ¬ (¬ upd (fun _ => 0) x v p ≤ 0 ∧ ¬ 0 ≤ upd (fun _ => 0) x v q) := by
  intro h
  by_cases e : p = x
  · by_cases g : q = x
    · rw [e, g, pk_us] at h
      exact h.2 ((Int32.le_total 0 v).resolve_right h.1)
    · refine h.2 ?_
      rw [pk_un g]
      exact Int32.le_refl 0
  · refine h.1 ?_
    rw [pk_un e]
    exact Int32.le_refl 0
end
section
/-! the walk: one lemma a method, the picture of part 01 -/
section
variable {post : St2 → Prop} {fm fr fy fk fc : Int32} {a1 a2 a3 a4 a5 a6 a7 a8 : Nat → Int32}
theorem fx_cl (k j : Nat) (h : 8 * k + j < 2 ^ 31) : (8 * nI k + nI j).toNatClampNeg = 8 * k + j := pk_cl (8 * k + j) (fx_ix k j) h
theorem fx_addUnit {n j : Nat} (hn : n < 300) (hj : j < 8)
    (H : ∀ b4 : Nat → Int32, (∀ p, p < 8 * n → b4 p = a4 p) → (∀ t, t < 8 → b4 (8 * n + t) = if t = j then 1 else 0) → post (fm, fr, nI (n + 1), fk, fc, a1, a2, a3, b4, upd a5 n (fx_bit j), a6, a7, a8)) :
    wpX_addUnit post (fm, fr, nI n, fk, fc, a1, a2, a3, a4, a5, a6, a7, a8) (nI j) 1 := by
  unfold wpX_addUnit
  dsimp only
  refine pk_loop (fun f i s => wX_addUnit_2 post (nI j) 1 fm fr (nI n) fk fc f (nI i) a1 a2 a3 s a5 a6 a7 a8) (fun i s => (∀ p, p < 8 * n → s p = a4 p) ∧ ∀ t, t < i → s (8 * n + t) = if t = j then 1 else 0) 8 0 a4 (by omega) ⟨fun p _ => rfl, fun t ht => absurd ht (by omega)⟩ (fun f s h => ?_) (fun f i s hi h hw => ?_)
  · exact pk_le 8 8 (fun _ => br_f (by decide) ⟨pk_in n 300 hn, nm_r (by rw [nI_clamp (by omega)]; rfl) (nm_r (nI_1 n) (H s h.1 h.2))⟩) (fun z => absurd z (by omega))
  · have F : ∀ x : Int32, (x = if i = j then 1 else 0) → (∀ p, p < 8 * n → upd s (8 * n + i) x p = a4 p) ∧ ∀ t, t < i + 1 → upd s (8 * n + i) x (8 * n + t) = if t = j then 1 else 0 := by
      intro x hx
      refine ⟨fun p hp => ?_, fun t ht => ?_⟩
      · rw [pk_un (by omega)]
        exact h.1 p hp
      · by_cases e : t = i
        · rw [e, pk_us, hx]
        · rw [pk_un (by omega)]
          exact h.2 t (by omega)
    exact pk_le 8 i (fun z => absurd z (by omega)) (fun _ => pk_eq i j (fun e => ⟨pk_in (8 * n + i) 2400 (by omega) (fx_ix n i), nm_r (congrArg (fun q => upd s q 1) (fx_cl n i (by omega))) (nm_r (nI_1 i) (hw (upd s (8 * n + i) 1) (F 1 (by rw [if_pos e]))))⟩) (fun e => ⟨pk_in (8 * n + i) 2400 (by omega) (fx_ix n i), nm_r (congrArg (fun q => upd s q 0) (fx_cl n i (by omega))) (nm_r (nI_1 i) (hw (upd s (8 * n + i) 0) (F 0 (by rw [if_neg e]))))⟩))
theorem fx_start {R : Nat} (hR : R ≤ 8) (hb : ∀ j, j < R → ¬ a3 j = 0 → a2 j = 0)
    (H : ∀ b4 b5 : Nat → Int32, fx_Rep (fx_L a3 a1 R 0) b4 b5 → post (fm, nI R, nI (fx_L a3 a1 R 0).length, fk, fc, a1, a2, a3, b4, b5, a6, a7, a8)) :
    wpX_start post (fm, nI R, fy, fk, fc, a1, a2, a3, a4, a5, a6, a7, a8) := by
  unfold wpX_start
  dsimp only
  refine pk_loop (σ := (Nat → Int32) × (Nat → Int32)) (fun f i s => wX_start_7 post f (nI i) fm (nI R) (nI (fx_L a3 a1 i 0).length) fk fc a1 a2 a3 s.1 s.2 a6 a7 a8) (fun i s => fx_Rep (fx_L a3 a1 i 0) s.1 s.2) R 0 (a4, a5) (by omega) fx_rep_nil (fun f s h => ?_) (fun f i s hi h hw => ?_)
  · exact pk_le R R (fun _ => H s.1 s.2 h) (fun z => absurd z (by omega))
  · have hl := fx_L_len a3 a1 i 0
    refine pk_le R i (fun z => absurd z (by omega)) (fun _ => ⟨pk_in i 8 (by omega), ?_⟩)
    rw [nI_clamp (show i < 2 ^ 31 by omega)]
    refine br_c (fun e => nm_r (nI_1 i) ?_) (fun e => fx_addUnit (by omega) (by omega) (fun b4 h4 h4n => ?_))
    · have t : wX_start_7 post f (nI (i + 1)) fm (nI R) (nI (fx_L a3 a1 (i + 1) 0).length) fk fc a1 a2 a3 s.1 s.2 a6 a7 a8 := hw s (by rw [fx_L_off a3 a1 i e]; exact h)
      rw [fx_L_off a3 a1 i e] at t
      exact t
    · have t : wX_start_7 post f (nI (i + 1)) fm (nI R) (nI (fx_L a3 a1 (i + 1) 0).length) fk fc a1 a2 a3 b4 (upd s.2 (fx_L a3 a1 i 0).length (fx_bit i)) a6 a7 a8 :=
        hw (b4, upd s.2 (fx_L a3 a1 i 0).length (fx_bit i)) (by rw [fx_L_on a3 a1 i e]; exact fx_rep_snoc h h4 h4n (fun k hk => pk_un (by omega)) pk_us)
      rw [fx_L_on a3 a1 i e, List.length_append, List.length_singleton] at t
      exact ⟨pk_in i 8 (by omega), br_t (hb i hi e) (nm_r (nI_1 i) t)⟩
theorem fx_weigh15 {J : Int32 → (Nat → Int32) → (Nat → Int32) → (Nat → Int32) → (Nat → Int32) → (Nat → Int32) → (Nat → Int32) → (Nat → Int32) → (Nat → Int32) → Prop} {s k R c : Nat} (hs : s < 4) (hk : k < 300) (hR : R ≤ 8) (hc : c < R) (h4 : ∀ j, j < 8 → a4 (8 * k + j) = if j = c then 1 else 0)
    (H : J (nI (k + 1)) a1 a2 a3 a4 a5 (upd a6 k (a1 (8 * s + c))) a7 a8) :
    ∃ f, wX_weigh_15 post J (nI s) (nI k) fm (nI R) fy fk fc a1 a2 a3 a4 a5 a6 a7 a8 f 0 0 := by
  refine pk_loop (fun f i t => wX_weigh_15 post J (nI s) (nI k) fm (nI R) fy fk fc a1 a2 a3 a4 a5 a6 a7 a8 f t (nI i)) (fun i t => t = if c < i then a1 (8 * s + c) else 0) R 0 0 (by omega) (by rw [if_neg (by omega)]) (fun f t h => ?_) (fun f i t hi h hw => ?_)
  · refine pk_le R R (fun _ => ⟨pk_in k 300 hk, nm_r ?_ (nm_r (nI_1 k) H)⟩) (fun z => absurd z (by omega))
    rw [nI_clamp (by omega), h, if_pos hc]
  · refine pk_le R i (fun z => absurd z (by omega)) (fun _ => ⟨pk_in (8 * s + i) 32 (by omega) (fx_ix s i), pk_in (8 * k + i) 2400 (by omega) (fx_ix k i), nm_r ?_ (nm_r (nI_1 i) (hw (if c < i + 1 then a1 (8 * s + c) else 0) rfl))⟩)
    rw [fx_cl s i (by omega), fx_cl k i (by omega), h4 i (by omega), h]
    by_cases e : i = c
    · rw [if_pos e, if_neg (by omega), if_pos (by omega), Int32.mul_one, Int32.zero_add, e]
    · rw [if_neg e, Int32.mul_zero, Int32.add_zero]
      by_cases g : c < i
      · rw [if_pos g, if_pos (by omega)]
      · rw [if_neg g, if_neg (by omega)]
theorem fx_weigh {L : List Nat} {s R : Nat} (hs : s < 4) (hR : R ≤ 8) (hL : ∀ c, c ∈ L → c < R) (hn : L.length ≤ 8) (h : fx_Rep L a4 a5)
    (H : ∀ b6 : Nat → Int32, (∀ k, k < L.length → b6 k = a1 (8 * s + L.getD k 0)) → post (fm, nI R, nI L.length, fk, fc, a1, a2, a3, a4, a5, b6, a7, a8)) :
    wpX_weigh post (fm, nI R, nI L.length, fk, fc, a1, a2, a3, a4, a5, a6, a7, a8) (nI s) := by
  unfold wpX_weigh
  dsimp only
  refine pk_loop (fun f i t => wX_weigh_2 post (nI s) fm (nI R) (nI L.length) fk fc f (nI i) a1 a2 a3 a4 a5 t a7 a8) (fun i t => ∀ k, k < i → t k = a1 (8 * s + L.getD k 0)) L.length 0 a6 (by omega) (fun k hk => absurd hk (by omega)) (fun f t g => ?_) (fun f i t hi g hw => ?_)
  · exact pk_le L.length L.length (fun _ => H t g) (fun z => absurd z (by omega))
  · refine pk_le L.length i (fun z => absurd z (by omega)) (fun _ => fx_weigh15 hs (by omega) hR (fx_getD_lt hL hi) (h i hi).2 (hw (upd t i (a1 (8 * s + L.getD i 0))) (fun k hk => ?_)))
    by_cases e : k = i
    · rw [e, pk_us]
    · rw [pk_un e]
      exact g k (by omega)
theorem fx_keep29 {J : Int32 → Int32 → (Nat → Int32) → (Nat → Int32) → (Nat → Int32) → (Nat → Int32) → (Nat → Int32) → (Nat → Int32) → (Nat → Int32) → (Nat → Int32) → Prop} {x1 : Int32} {q k : Nat} (hq : q ≤ k) (hk : k < 300)
    (H : ∀ b4 : Nat → Int32, (∀ p, ¬ (8 * q ≤ p ∧ p < 8 * q + 8) → b4 p = a4 p) → (∀ t, t < 8 → b4 (8 * q + t) = a4 (8 * k + t)) → J (nI (q + 1)) (nI (k + 1)) a1 a2 a3 b4 (upd a5 q (a5 k)) a6 a7 a8) :
    ∃ f, wX_keepBalanced_29 post J x1 (nI q) (nI k) fm fr fy fk fc f 0 a1 a2 a3 a4 a5 a6 a7 a8 := by
  refine pk_loop (fun f i s => wX_keepBalanced_29 post J x1 (nI q) (nI k) fm fr fy fk fc f (nI i) a1 a2 a3 s a5 a6 a7 a8) (fun i s => (∀ p, ¬ (8 * q ≤ p ∧ p < 8 * q + i) → s p = a4 p) ∧ ∀ t, t < i → s (8 * q + t) = a4 (8 * k + t)) 8 0 a4 (by omega) ⟨fun p _ => rfl, fun t ht => absurd ht (by omega)⟩ (fun f s h => ?_) (fun f i s hi h hw => ?_)
  · exact pk_le 8 8 (fun _ => ⟨pk_in k 300 hk, pk_in q 300 (by omega), nm_r (by rw [pk_cl q, pk_cl k]) (nm_r (nI_1 q) (nm_r (nI_1 k) (H s h.1 h.2)))⟩) (fun z => absurd z (by omega))
  · have e1 : s (8 * k + i) = a4 (8 * k + i) := h.1 _ (by omega)
    refine pk_le 8 i (fun z => absurd z (by omega)) (fun _ => ⟨pk_in (8 * k + i) 2400 (by omega) (fx_ix k i), pk_in (8 * q + i) 2400 (by omega) (fx_ix q i), nm_r ?_ (nm_r (nI_1 i) (hw (upd s (8 * q + i) (a4 (8 * k + i))) ⟨fun p hp => ?_, fun t ht => ?_⟩))⟩)
    · rw [fx_cl k i (by omega), fx_cl q i (by omega), e1]
    · rw [pk_un (by omega)]
      exact h.1 p (by omega)
    · by_cases e : t = i
      · rw [e, pk_us]
      · rw [pk_un (by omega)]
        exact h.2 t (by omega)
theorem fx_keep {L : List Nat} {Q : Nat → Bool} (hn : L.length ≤ 8) (h6 : ∀ k, k < L.length → (a6 k = 0 ↔ Q (L.getD k 0) = true)) (h : fx_Rep L a4 a5)
    (H : ∀ b4 b5 : Nat → Int32, fx_Rep (L.filter Q) b4 b5 → post (fm, fr, nI (L.filter Q).length, fk, fc, a1, a2, a3, b4, b5, a6, a7, a8)) :
    wpX_keepBalanced post (fm, fr, nI L.length, fk, fc, a1, a2, a3, a4, a5, a6, a7, a8) (nI L.length) := by
  unfold wpX_keepBalanced
  dsimp only
  refine pk_loop (σ := (Nat → Int32) × (Nat → Int32)) (fun f i s => wX_keepBalanced_4 post (nI L.length) fm fr (nI L.length) fk fc f (nI ((L.take i).filter Q).length) (nI i) a1 a2 a3 s.1 s.2 a6 a7 a8) (fun i s => fx_Rep ((L.take i).filter Q) s.1 s.2 ∧ ∀ k, i ≤ k → k < L.length → s.2 k = fx_bit (L.getD k 0) ∧ ∀ j, j < 8 → s.1 (8 * k + j) = if j = L.getD k 0 then 1 else 0) L.length 0 (a4, a5) (by omega) ⟨fx_rep_nil, fun k _ hk => h k hk⟩ (fun f s g => ?_) (fun f i s hi g hw => ?_)
  · have e : L.take L.length = L := List.take_length
    have g1 : fx_Rep ((L.take L.length).filter Q) s.1 s.2 := g.1
    rw [e] at g1
    show wX_keepBalanced_4 post (nI L.length) fm fr (nI L.length) fk fc (f + 1) (nI ((L.take L.length).filter Q).length) (nI L.length) a1 a2 a3 s.1 s.2 a6 a7 a8
    rw [e]
    exact pk_le L.length L.length (fun _ => H s.1 s.2 g1) (fun z => absurd z (by omega))
  · have hq := fx_kept_le L i Q
    refine pk_le L.length i (fun z => absurd z (by omega)) (fun _ => pk_le L.length i (fun z => absurd z (by omega)) (fun _ => ⟨pk_in i 300 (by omega), ?_⟩))
    rw [nI_clamp (show i < 2 ^ 31 by omega)]
    by_cases e : Q (L.getD i 0) = true
    · refine br_t ((h6 i hi).mpr e) (fx_keep29 hq (by omega) (fun b4 h4 h4n => ?_))
      have t : wX_keepBalanced_4 post (nI L.length) fm fr (nI L.length) fk fc f (nI ((L.take (i + 1)).filter Q).length) (nI (i + 1)) a1 a2 a3 b4 (upd s.2 ((L.take i).filter Q).length (s.2 i)) a6 a7 a8 := by
        refine hw (b4, upd s.2 ((L.take i).filter Q).length (s.2 i)) ⟨?_, fun k hk1 hk2 => ?_⟩
        · rw [fx_keep_t hi e]
          exact fx_rep_snoc g.1 (fun p hp => h4 p (by omega)) (fun j hj => (h4n j hj).trans ((g.2 i (Nat.le_refl i) hi).2 j hj)) (fun k hk => pk_un (by omega)) (pk_us.trans (g.2 i (Nat.le_refl i) hi).1)
        · have g2 := g.2 k (by omega) hk2
          refine ⟨(pk_un (by omega)).trans g2.1, fun j hj => (h4 _ (by omega)).trans (g2.2 j hj)⟩
      rw [fx_keep_t hi e, List.length_append, List.length_singleton] at t
      exact t
    · have t : wX_keepBalanced_4 post (nI L.length) fm fr (nI L.length) fk fc f (nI ((L.take (i + 1)).filter Q).length) (nI (i + 1)) a1 a2 a3 s.1 s.2 a6 a7 a8 := by
        refine hw s ⟨?_, fun k hk1 hk2 => g.2 k (by omega) hk2⟩
        rw [fx_keep_f hi e]
        exact g.1
      rw [fx_keep_f hi e] at t
      exact br_f (fun z => e ((h6 i hi).mp z)) (nm_r (nI_1 i) t)
theorem fx_42 {J14 J34 : Int32 → Int32 → Int32 → Int32 → Int32 → Int32 → (Nat → Int32) → (Nat → Int32) → (Nat → Int32) → (Nat → Int32) → (Nat → Int32) → (Nat → Int32) → (Nat → Int32) → (Nat → Int32) → Prop} {x1 : Int32} {n p : Nat} (hn : n ≤ 300) (hp : p < n) (hs : ∀ i j, i < n → j < n → ¬ (¬ a6 i ≤ 0 ∧ ¬ 0 ≤ a6 j))
    (H : J34 (nI (p + 1)) fm fr fy fk fc a1 a2 a3 a4 a5 a6 a7 a8) :
    ∃ f, wX_refresh_42 post J14 J34 x1 (nI n) (nI p) f 0 fm fr fy fk fc a1 a2 a3 a4 a5 a6 a7 a8 := by
  refine pk_loop (σ := Unit) (fun f i _ => wX_refresh_42 post J14 J34 x1 (nI n) (nI p) f (nI i) fm fr fy fk fc a1 a2 a3 a4 a5 a6 a7 a8) (fun _ _ => True) n 0 () (by omega) trivial (fun f _ _ => ?_) (fun f i _ hi _ hw => ?_)
  · exact pk_le n n (fun _ => nm_r (nI_1 p) H) (fun z => absurd z (by omega))
  · have t : wX_refresh_42 post J14 J34 x1 (nI n) (nI p) f (nI (i + 1)) fm fr fy fk fc a1 a2 a3 a4 a5 a6 a7 a8 := hw () trivial
    refine pk_le n i (fun z => absurd z (by omega)) (fun _ => ⟨pk_in p 300 (by omega), br_c (fun _ => nm_r (nI_1 i) t) (fun e => ⟨pk_in i 300 (by omega), br_c (fun _ => nm_r (nI_1 i) t) (fun e2 => ?_)⟩)⟩)
    rw [pk_cl p] at e
    rw [pk_cl i] at e2
    exact absurd ⟨e, e2⟩ (hs p i hp hi)
theorem fx_34 {J14 : Int32 → Int32 → Int32 → Int32 → Int32 → Int32 → (Nat → Int32) → (Nat → Int32) → (Nat → Int32) → (Nat → Int32) → (Nat → Int32) → (Nat → Int32) → (Nat → Int32) → (Nat → Int32) → Prop} {s : Nat} {L : List Nat} {Q : Nat → Bool} (hn : L.length ≤ 8) (h6 : ∀ k, k < L.length → (a6 k = 0 ↔ Q (L.getD k 0) = true)) (hs : ∀ i j, i < L.length → j < L.length → ¬ (¬ a6 i ≤ 0 ∧ ¬ 0 ≤ a6 j)) (h : fx_Rep L a4 a5)
    (H : ∀ b4 b5 : Nat → Int32, fx_Rep (L.filter Q) b4 b5 → J14 (nI (s + 1)) fm fr (nI (L.filter Q).length) fk fc a1 a2 a3 b4 b5 a6 a7 a8) :
    ∃ f, wX_refresh_34 post J14 (nI s) (nI L.length) f 0 fm fr (nI L.length) fk fc a1 a2 a3 a4 a5 a6 a7 a8 := by
  refine pk_loop (σ := Unit) (fun f i _ => wX_refresh_34 post J14 (nI s) (nI L.length) f (nI i) fm fr (nI L.length) fk fc a1 a2 a3 a4 a5 a6 a7 a8) (fun _ _ => True) L.length 0 () (by omega) trivial (fun f _ _ => ?_) (fun f i _ hi _ hw => ?_)
  · exact pk_le L.length L.length (fun _ => fx_keep hn h6 h (fun b4 b5 h' => nm_r (nI_1 s) (H b4 b5 h'))) (fun z => absurd z (by omega))
  · exact pk_le L.length i (fun z => absurd z (by omega)) (fun _ => fx_42 (by omega) hi hs (hw () trivial))
theorem fx_turn43 {J : Int32 → (Nat → Int32) → (Nat → Int32) → (Nat → Int32) → (Nat → Int32) → (Nat → Int32) → (Nat → Int32) → (Nat → Int32) → (Nat → Int32) → Prop} {x2 : Int32} {n k : Nat} (hn : n ≤ 300) (hk : k < n)
    (H : ∀ b7 : Nat → Int32, J (nI (k + 1)) a1 a2 a3 a4 a5 a6 b7 a8) :
    ∃ f, wX_findTurning_43 post J (nI k) x2 fm fr (nI n) fk fc f 0 a1 a2 a3 a4 a5 a6 a7 a8 := by
  refine pk_loop (fun f i s => wX_findTurning_43 post J (nI k) x2 fm fr (nI n) fk fc f (nI i) a1 a2 a3 a4 a5 a6 s a8) (fun _ _ => True) n 0 a7 (by omega) trivial (fun f s _ => ?_) (fun f i s hi _ hw => ?_)
  · exact pk_le n n (fun _ => nm_r (nI_1 k) (H s)) (fun z => absurd z (by omega))
  · exact pk_le n i (fun z => absurd z (by omega)) (fun _ => ⟨pk_in i 300 (by omega), br_c (fun _ => ⟨pk_in k 300 (by omega), nm_e (nm_r (nI_1 i) (hw _ trivial))⟩) (fun _ => nm_r (nI_1 i) (hw s trivial))⟩)
theorem fx_turning {n : Nat} (hn : n ≤ 300) (H : ∀ b7 : Nat → Int32, post (fm, fr, nI n, fk, fc, a1, a2, a3, a4, a5, a6, b7, a8)) :
    wpX_findTurning post (fm, fr, nI n, fk, fc, a1, a2, a3, a4, a5, a6, a7, a8) := by
  unfold wpX_findTurning
  dsimp only
  refine pk_loop (fun f i s => wX_findTurning_2 post fm fr (nI n) fk fc f (nI i) a1 a2 a3 a4 a5 a6 s a8) (fun _ _ => True) n 0 a7 (by omega) trivial (fun f s _ => ?_) (fun f i s hi _ hw => ?_)
  · exact pk_le n n (fun _ => H s) (fun z => absurd z (by omega))
  · exact pk_le n i (fun z => absurd z (by omega)) (fun _ => ⟨pk_in i 300 (by omega), pk_in i 300 (by omega), nm_e ⟨pk_in i 300 (by omega), nm_e (fx_turn43 hn hi (fun b7 => hw b7 trivial))⟩⟩)
theorem fx_support {ps : Int32 → Prop} {x : Int32} {v : Nat} (hx : x = nI v) (hv : v < 300) (H : ps ((a5 v ||| (a5 v >>> ((8 : Int32) &&& 31))) &&& 255)) :
    wpX_supportOf ps (fm, fr, fy, fk, fc, a1, a2, a3, a4, a5, a6, a7, a8) x := by
  subst hx
  unfold wpX_supportOf
  dsimp only
  rw [nI_clamp (show v < 2 ^ 31 by omega)]
  exact ⟨pk_in v 300 hv, pk_in v 300 hv, H⟩
theorem fx_arr52 {J : Int32 → Int32 → (Nat → Int32) → (Nat → Int32) → (Nat → Int32) → (Nat → Int32) → (Nat → Int32) → (Nat → Int32) → (Nat → Int32) → (Nat → Int32) → Prop} {x2 : Int32} {i k : Nat} (hi : i < 300) (hk : k < 300) (h : ∀ t, t < i → ∃ v, v < 300 ∧ a8 t = nI v)
    (H : ∀ b8 : Nat → Int32, (∀ t, t < i + 1 → ∃ v, v < 300 ∧ b8 t = nI v) → J (nI (k + 1)) (nI (i + 1)) a1 a2 a3 a4 a5 a6 a7 b8) :
    ∃ f, wX_arrange_52 post J (nI k) x2 fm fr fy (nI i) fc f (nI i) a1 a2 a3 a4 a5 a6 a7 a8 := by
  have X : ∀ (q : Nat) (s : Nat → Int32), q ≤ i → (∀ t, t < i + 1 → t ≠ q → ∃ v, v < 300 ∧ s t = nI v) → wX_arrange_96 post J (nI k) (nI q) fm fr fy (nI i) fc a1 a2 a3 a4 a5 a6 a7 s := by
    intro q s hq g
    refine ⟨pk_in q 300 (by omega), nm_r (by rw [pk_cl q]) (nm_r (nI_1 i) (nm_r (nI_1 k) (H (upd s q (nI k)) (fun t ht => ?_))))⟩
    by_cases e : t = q
    · exact ⟨k, hk, by rw [e, pk_us]⟩
    · obtain ⟨v, hv, ev⟩ := g t ht e
      exact ⟨v, hv, by rw [pk_un e, ev]⟩
  refine ⟨i + 1, pk_loopD (fun f q s => wX_arrange_52 post J (nI k) x2 fm fr fy (nI i) fc f (nI q) a1 a2 a3 a4 a5 a6 a7 s) (fun q s => q ≤ i ∧ ∀ t, t < i + 1 → t ≠ q → ∃ v, v < 300 ∧ s t = nI v) (fun f s g => ?_) (fun f q s g hw => ?_) i a8 ⟨Nat.le_refl i, fun t ht e => h t (by omega)⟩⟩
  · exact pk_le 0 0 (fun _ => X 0 s g.1 g.2) (fun z => absurd z (by omega))
  · have hq := g.1
    obtain ⟨v, hv, ev⟩ := g.2 q (by omega) (by omega)
    refine pk_le (q + 1) 0 (fun z => absurd z (by omega)) (fun _ => ⟨pk_in q 300 (by omega) (nI_pred q), fx_support (v := v) (by rw [pk_cl q (nI_pred q)]; exact ev) hv (br_c (fun _ => X (q + 1) s hq g.2) (fun _ => ⟨pk_in q 300 (by omega) (nI_pred q), pk_in (q + 1) 300 (by omega), nm_r (e' := upd s (q + 1) (s q)) ?_ (nm_r (pk_m1 q) (hw (upd s (q + 1) (s q)) ⟨by omega, fun t ht e => ?_⟩))⟩))⟩)
    · rw [pk_cl (q + 1), pk_cl q (nI_pred q)]
    · by_cases e2 : t = q + 1
      · exact ⟨v, hv, by rw [e2, pk_us, ev]⟩
      · obtain ⟨w, hw2, ew⟩ := g.2 t ht e2
        exact ⟨w, hw2, by rw [pk_un e2, ew]⟩
theorem fx_arrange {n : Nat} (hn : n ≤ 300) (h5 : ∀ k, k < n → ∃ c, c < 8 ∧ a5 k = fx_bit c) (H : ∀ b8 : Nat → Int32, post (fm, fr, nI n, nI n, fc, a1, a2, a3, a4, a5, a6, a7, b8)) :
    wpX_arrange post (fm, fr, nI n, fk, fc, a1, a2, a3, a4, a5, a6, a7, a8) := by
  unfold wpX_arrange
  dsimp only
  refine pk_loop (fun f i s => wX_arrange_7 post fm fr (nI n) fc f (nI i) (nI i) a1 a2 a3 a4 a5 a6 a7 s) (fun i s => ∀ t, t < i → ∃ v, v < 300 ∧ s t = nI v) n 0 a8 (by omega) (fun t ht => absurd ht (by omega)) (fun f s g => ?_) (fun f i s hi g hw => ?_)
  · exact pk_le n n (fun _ => H s) (fun z => absurd z (by omega))
  · refine pk_le n i (fun z => absurd z (by omega)) (fun _ => fx_support (v := i) rfl (by omega) (nm_e ⟨pk_in i 300 (by omega), br_c (fun _ => fx_arr52 (by omega) (by omega) g (fun b8 g' => hw b8 g')) (fun _ => ⟨pk_in i 300 (by omega), br_f ?_ (fx_arr52 (by omega) (by omega) g (fun b8 g' => hw b8 g'))⟩)⟩))
    obtain ⟨c, hc, e⟩ := h5 i hi
    rw [pk_cl i, e]
    exact fx_sup c hc
theorem fx_refresh {M R : Nat} (hM : M ≤ 4) (hR : R ≤ 8) (hb : ∀ j, j < R → ¬ a3 j = 0 → a2 j = 0) (hs : ∀ p q, ¬ (¬ a1 p ≤ 0 ∧ ¬ 0 ≤ a1 q))
    (H : ∀ b4 b5 b6 b7 b8 : Nat → Int32, post (nI M, nI R, nI (fx_L a3 a1 R M).length, nI (fx_L a3 a1 R M).length, 1, a1, a2, a3, b4, b5, b6, b7, b8)) :
    wpX_refresh post (nI M, nI R, fy, fk, 0, a1, a2, a3, a4, a5, a6, a7, a8) := by
  unfold wpX_refresh
  dsimp only
  refine br_t rfl (fx_start hR hb (fun b4 b5 hB => ?_))
  refine pk_loop (σ := (Nat → Int32) × (Nat → Int32) × (Nat → Int32)) (fun f i t => wX_refresh_14 post f (nI i) (nI M) (nI R) (nI (fx_L a3 a1 R i).length) fk 0 a1 a2 a3 t.1 t.2.1 t.2.2 a7 a8) (fun i t => fx_Rep (fx_L a3 a1 R i) t.1 t.2.1) M 0 (b4, b5, a6) (by omega) hB (fun f t g => ?_) (fun f i t hi g hw => ?_)
  · have hl := fx_L_len a3 a1 R M
    refine pk_le M M (fun _ => fx_turning (by omega) (fun b7 => fx_arrange (by omega) (fun k hk => ⟨(fx_L a3 a1 R M).getD k 0, ?_, (g k hk).1⟩) (fun b8 => H _ _ _ _ _))) (fun z => absurd z (by omega))
    have hg : (fx_L a3 a1 R M).getD k 0 < R := fx_getD_lt (fun c hc => fx_L_mem hc) hk
    omega
  · have hl := fx_L_len a3 a1 R i
    refine pk_le M i (fun z => absurd z (by omega)) (fun _ => fx_weigh (by omega) hR (fun c hc => fx_L_mem hc) (by omega) g (fun b6 h6 => ?_))
    refine fx_34 (Q := fun j => decide (a1 (8 * i + j) = 0)) (by omega) (fun k hk => ?_) (fun p q hp hq => ?_) g (fun c4 c5 hC => ?_)
    · rw [h6 k hk]
      exact decide_eq_true_iff.symm
    · rw [h6 p hp, h6 q hq]
      exact hs _ _
    · have r : wX_refresh_14 post f (nI (i + 1)) (nI M) (nI R) (nI (fx_L a3 a1 R (i + 1)).length) fk 0 a1 a2 a3 c4 c5 b6 a7 a8 := hw (c4, c5, b6) (by rw [fx_L_succ]; exact hC)
      rw [fx_L_succ] at r
      exact r
end
end
section
/-! the law, from the inside out -/
section
variable {fm fr fy fk fc : Int32} {a1 a2 a3 a4 a5 a6 a7 a8 : Nat → Int32}
theorem fx_modes {pm : Int32 → St2 → Prop} {M R : Nat} (hM : M ≤ 4) (hR : R ≤ 8) (hb : ∀ j, j < R → ¬ a3 j = 0 → a2 j = 0) (hs : ∀ p q, ¬ (¬ a1 p ≤ 0 ∧ ¬ 0 ≤ a1 q))
    (H : ∀ b4 b5 b6 b7 b8 : Nat → Int32, pm (nI (fx_L a3 a1 R M).length) (nI M, nI R, nI (fx_L a3 a1 R M).length, nI (fx_L a3 a1 R M).length, 1, a1, a2, a3, b4, b5, b6, b7, b8)) :
    wpX_modes pm (nI M, nI R, fy, fk, 0, a1, a2, a3, a4, a5, a6, a7, a8) := by
  unfold wpX_modes
  dsimp only
  exact fx_refresh hM hR hb hs (fun b4 b5 b6 b7 b8 => H b4 b5 b6 b7 b8)
theorem fx_modes1 {pm : Int32 → St2 → Prop} (H : pm fk (fm, fr, fy, fk, 1, a1, a2, a3, a4, a5, a6, a7, a8)) :
    wpX_modes pm (fm, fr, fy, fk, 1, a1, a2, a3, a4, a5, a6, a7, a8) := by
  unfold wpX_modes
  dsimp only
  unfold wpX_refresh
  dsimp only
  exact br_f (by decide) H
theorem fx_isR0 {ps : Int32 → Prop} {x : Int32} (h : x < 0 ∨ fr ≤ x) (H : ps 0) : wpX_isReaction ps (fm, fr, fy, fk, fc, a1, a2, a3, a4, a5, a6, a7, a8) x := by
  unfold wpX_isReaction
  dsimp only
  exact br_c (fun _ => H) (fun e => br_t (h.resolve_left e) H)
theorem fx_isR1 {ps : Int32 → Prop} {j R : Nat} (hj : j < R) (hR : R ≤ 8) (H : ps 1) : wpX_isReaction ps (fm, nI R, fy, fk, fc, a1, a2, a3, a4, a5, a6, a7, a8) (nI j) := by
  unfold wpX_isReaction
  dsimp only
  exact br_f (nI_pos (by omega)) (br_f (nI_ge hj (by omega)) H)
theorem fx_isS0 {ps : Int32 → Prop} {x : Int32} (h : x < 0 ∨ fm ≤ x) (H : ps 0) : wpX_isSubstance ps (fm, fr, fy, fk, fc, a1, a2, a3, a4, a5, a6, a7, a8) x := by
  unfold wpX_isSubstance
  dsimp only
  exact br_c (fun _ => H) (fun e => br_t (h.resolve_left e) H)
theorem fx_isS1 {ps : Int32 → Prop} {j M : Nat} (hj : j < M) (hM : M ≤ 4) (H : ps 1) : wpX_isSubstance ps (nI M, fr, fy, fk, fc, a1, a2, a3, a4, a5, a6, a7, a8) (nI j) := by
  unfold wpX_isSubstance
  dsimp only
  exact br_f (nI_pos (by omega)) (br_f (nI_ge hj (by omega)) H)
theorem fx_two0 {pm : Int32 → St2 → Prop} {x v : Int32} (h : x < 0 ∨ fr ≤ x) (H : pm (-1) (fm, fr, fy, fk, fc, a1, a2, a3, a4, a5, a6, a7, a8)) :
    wpX_twoWay pm (fm, fr, fy, fk, fc, a1, a2, a3, a4, a5, a6, a7, a8) x v := by
  unfold wpX_twoWay
  dsimp only
  exact fx_isR0 h (br_t rfl H)
theorem fx_two1 {pm : Int32 → St2 → Prop} {v : Int32} {j R : Nat} (hj : j < R) (hR : R ≤ 8) (h0 : a2 j = 0) (H : ∀ x : Int32, pm 0 (fm, nI R, fy, fk, 0, a1, upd a2 j x, a3, a4, a5, a6, a7, a8)) :
    wpX_twoWay pm (fm, nI R, fy, fk, fc, a1, a2, a3, a4, a5, a6, a7, a8) (nI j) v := by
  unfold wpX_twoWay
  dsimp only
  refine fx_isR1 hj hR (br_f (by decide) ⟨pk_in j 8 (by omega), br_t ?_ ?_⟩)
  · rw [pk_cl j]
    exact h0
  · unfold wX_twoWay_24
    exact br_c (fun _ => ⟨pk_in j 8 (by omega), nm_r (by rw [pk_cl j]) (H 0)⟩) (fun _ => ⟨pk_in j 8 (by omega), nm_r (by rw [pk_cl j]) (H 1)⟩)
theorem fx_trn0 {pm : Int32 → St2 → Prop} {x v : Int32} (h : x < 0 ∨ fr ≤ x) (H : pm (-1) (fm, fr, fy, fk, fc, a1, a2, a3, a4, a5, a6, a7, a8)) :
    wpX_turn pm (fm, fr, fy, fk, fc, a1, a2, a3, a4, a5, a6, a7, a8) x v := by
  unfold wpX_turn
  dsimp only
  exact fx_isR0 h (br_t rfl H)
theorem fx_trn1 {pm : Int32 → St2 → Prop} {j R : Nat} (hj : j < R) (hR : R ≤ 8) (h1 : ¬ a3 j = 0) (H : pm 1 (fm, nI R, fy, fk, 0, a1, a2, upd a3 j 0, a4, a5, a6, a7, a8)) :
    wpX_turn pm (fm, nI R, fy, fk, fc, a1, a2, a3, a4, a5, a6, a7, a8) (nI j) 0 := by
  unfold wpX_turn
  dsimp only
  refine fx_isR1 hj hR (br_f (by decide) ⟨pk_in j 8 (by omega), br_f ?_ ?_⟩)
  · rw [pk_cl j]
    exact h1
  · unfold wX_turn_24
    exact br_t rfl ⟨pk_in j 8 (by omega), nm_r (by rw [pk_cl j]) H⟩
theorem fx_pred {R : Nat} (h : 2 ≤ R) : nI R - 1 = nI (R - 1) := pk_sub (a := R) (b := 1) (by omega)
/-- behind the first modes(): twoWay, turn, modes -/
theorem fx_218 {ps : Int32 → St0 → Prop} {mc ms kc ks M R : Nat} {x3 x4 x9 z0 z1 : Int32} (hM : M ≤ 4) (hR2 : 2 ≤ R) (hR : R ≤ 8) (hon : ∀ j, j < 8 → a3 j = 1) (hz : z1 = z0) (hs : ∀ p q, ¬ (¬ a1 p ≤ 0 ∧ ¬ 0 ≤ a1 q))
    (hc : (x9 = 0 ∧ (x3 < 0 ∨ nI R ≤ x3) ∧ fk = nI R) ∨ ((¬ x9 = 0) ∧ ∃ j, j < R ∧ x3 = nI j ∧ ∀ i, i < R → ¬ i = j → ∀ t, t < M → a1 (8 * t + i) = 0))
    (H : ps 1 ()) : wL_lawOf_218 ps mc ms x3 x4 (nI R) x9 z0 z1 kc ks (nI M) (nI R) fy fk 1 a1 (fun _ => 0) a3 a4 a5 a6 a7 a8 := by
  unfold wL_lawOf_218
  refine br_t hz ?_
  rcases hc with ⟨h9, hx, hk⟩ | ⟨h9, j, hj, rfl, h1⟩
  · refine fx_two0 hx (br_t h9 ?_)
    unfold wL_lawOf_241
    refine br_t rfl (fx_trn0 hx (br_t h9 ?_))
    unfold wL_lawOf_263
    refine br_t rfl (fx_modes1 (br_t h9 ?_))
    exact br_t hk H
  · refine fx_two1 hj hR rfl (fun x => br_f h9 ?_)
    unfold wL_lawOf_241
    have hn : ¬ a3 j = 0 := by
      rw [hon j (by omega)]
      decide
    refine br_t rfl (fx_trn1 hj hR hn (br_f h9 ?_))
    unfold wL_lawOf_263
    have hb : ∀ i, i < R → ¬ upd a3 j 0 i = 0 → upd (fun _ => 0) j x i = 0 := by
      intro i hi g
      by_cases e : i = j
      · rw [e, pk_us] at g
        exact absurd rfl g
      · rw [pk_un e]
    have hl : (fx_L (upd a3 j 0) a1 R M).length = R - 1 := by
      refine fx_len_but hR hj (fun i hi => ⟨fun g e => ?_, fun e => ⟨?_, h1 i hi e⟩⟩)
      · rw [e, pk_us] at g
        exact g.1 rfl
      · rw [pk_un e, hon i (by omega)]
        decide
    refine br_t rfl (fx_modes hM hR hb hs (fun b4 b5 b6 b7 b8 => br_f h9 (br_t ?_ H)))
    rw [hl, fx_pred hR2]
/-- behind get(): the first modes() -/
theorem fx_194 {ps : Int32 → St0 → Prop} {mc ms kc ks M R : Nat} {x3 x4 x9 x12 z : Int32} (hM : M ≤ 4) (hR2 : 2 ≤ R) (hR : R ≤ 8) (hon : ∀ j, j < 8 → a3 j = 1)
    (hc : (x9 = 0 ∧ x12 = 0 ∧ (x3 < 0 ∨ nI R ≤ x3)) ∨ ((¬ x9 = 0) ∧ ∃ j, j < R ∧ x3 = nI j))
    (ht : (x12 = 0 ∧ ∀ p, a1 p = 0) ∨ (∃ s j, s < M ∧ j < R ∧ x3 = nI j ∧ a1 = upd (fun _ => 0) (8 * s + j) x12))
    (H : ps 1 ()) : wL_lawOf_194 ps mc ms x3 x4 (nI R) x9 x12 z z kc ks (nI M) (nI R) fy fk 0 a1 (fun _ => 0) a3 a4 a5 a6 a7 a8 := by
  have hn : ∀ i, i < R → ¬ a3 i = 0 := by
    intro i hi
    rw [hon i (by omega)]
    decide
  have hs : ∀ p q, ¬ (¬ a1 p ≤ 0 ∧ ¬ 0 ≤ a1 q) := by
    intro p q
    rcases ht with ⟨_, h0⟩ | ⟨s, j, _, _, _, e⟩
    · rw [h0 p]
      exact fun z => z.1 (Int32.le_refl 0)
    · rw [e]
      exact fx_sign
  unfold wL_lawOf_194
  refine br_t rfl (fx_modes hM hR (fun _ _ _ => rfl) hs (fun b4 b5 b6 b7 b8 => br_c (fun e12 => ?_) (fun e12 => ?_)))
  · have h0 : ∀ p, a1 p = 0 := by
      intro p
      rcases ht with ⟨_, h0⟩ | ⟨s, j, _, _, _, e⟩
      · exact h0 p
      · rw [e, e12]
        by_cases g : p = 8 * s + j
        · rw [g, pk_us]
        · rw [pk_un g]
    have hl : (fx_L a3 a1 R M).length = R := fx_len_all (fun i hi => ⟨hn i hi, fun t _ => h0 _⟩)
    rw [hl]
    refine fx_218 hM hR2 hR hon rfl hs ?_ H
    rcases hc with ⟨h9, _, hx⟩ | ⟨h9, j, hj, e⟩
    · exact Or.inl ⟨h9, hx, rfl⟩
    · exact Or.inr ⟨h9, j, hj, e, fun i _ _ t _ => h0 _⟩
  · rcases hc with ⟨_, h12, _⟩ | ⟨h9, j', hj', e'⟩
    · exact absurd h12 e12
    · rcases ht with ⟨h12, _⟩ | ⟨s, j, hs4, hj, e3, e⟩
      · exact absurd h12 e12
      · have h1 : ∀ i, i < R → ¬ i = j → ∀ t, t < M → a1 (8 * t + i) = 0 := by
          intro i hi g t ht'
          rw [e, pk_un (by omega)]
        have hl : (fx_L a3 a1 R M).length = R - 1 := by
          refine fx_len_but hR hj (fun i hi => ⟨fun g ei => ?_, fun ei => ⟨hn i hi, h1 i hi ei⟩⟩)
          have g2 := g.2 s hs4
          rw [ei, e, pk_us] at g2
          exact e12 g2
        rw [hl]
        exact fx_218 hM hR2 hR hon (fx_pred hR2).symm hs (Or.inr ⟨h9, j, hj, e3, h1⟩) H
end
end
section
/-! set, get, the constructor, the law's head -/
section
variable {ps : Int32 → St0 → Prop} {mc ms kc ks M R : Nat} {x2 x3 x4 x8 x9 z : Int32} {fy fk : Int32} {a3 a4 a5 a6 a7 a8 : Nat → Int32}
theorem fx_107 (hM : M ≤ 4) (hR2 : 2 ≤ R) (hR : R ≤ 8) (hon : ∀ j, j < 8 → a3 j = 1)
    (h8 : (x8 = 0 ∧ (x2 < 0 ∨ nI M ≤ x2)) ∨ (x8 = 1 ∧ ∃ s, s < M ∧ x2 = nI s))
    (h9 : (x9 = 0 ∧ (x3 < 0 ∨ nI R ≤ x3)) ∨ (x9 = 1 ∧ ∃ j, j < R ∧ x3 = nI j))
    (hz : (z = 0 ∧ (x4 < (-3) ∨ 3 < x4)) ∨ (z = 1 ∧ (¬ x4 < (-3)) ∧ ¬ 3 < x4))
    (H : ps 1 ()) : wL_lawOf_107 ps mc ms x2 x3 x4 (nI R) x8 x9 z kc ks (nI M) (nI R) fy fk 0 (fun _ => 0) (fun _ => 0) a3 a4 a5 a6 a7 a8 := by
  have hcol : (x9 = 0 ∧ (0 : Int32) = 0 ∧ (x3 < 0 ∨ nI R ≤ x3)) ∨ ((¬ x9 = 0) ∧ ∃ j, j < R ∧ x3 = nI j) := by
    rcases h9 with ⟨e, h⟩ | ⟨e, h⟩
    · exact Or.inl ⟨e, rfl, h⟩
    · exact Or.inr ⟨by rw [e]; decide, h⟩
  unfold wL_lawOf_107
  rcases h8 with ⟨e8, hx2⟩ | ⟨e8, s, hs, rfl⟩
  · refine br_t e8 ?_
    unfold wL_lawOf_139 wpX_set
    dsimp only
    refine fx_isS0 hx2 (br_t rfl (br_t rfl (br_f (by decide) ?_)))
    unfold wL_lawOf_168 wpX_get
    dsimp only
    refine fx_isS0 hx2 (br_t rfl (br_t e8 ?_))
    unfold wL_lawOf_192
    exact fx_194 hM hR2 hR hon hcol (Or.inl ⟨rfl, fun _ => rfl⟩) H
  · have n8 : ¬ x8 = 0 := by
      rw [e8]
      decide
    refine br_f n8 ?_
    rcases h9 with ⟨e9, hx3⟩ | ⟨e9, j, hj, rfl⟩
    · refine br_t e9 ?_
      unfold wL_lawOf_139 wpX_set
      dsimp only
      refine fx_isS1 hs hM (br_f (by decide) (fx_isR0 hx3 (br_t rfl (br_t rfl (br_f (by decide) ?_)))))
      unfold wL_lawOf_168 wpX_get
      dsimp only
      refine fx_isS1 hs hM (br_f (by decide) (fx_isR0 hx3 (br_t rfl (br_f n8 (br_t e9 ?_)))))
      unfold wL_lawOf_192
      exact fx_194 hM hR2 hR hon hcol (Or.inl ⟨rfl, fun _ => rfl⟩) H
    · have n9 : ¬ x9 = 0 := by
        rw [e9]
        decide
      refine br_f n9 ?_
      rcases hz with ⟨ez, hx4⟩ | ⟨ez, hx4, hx4'⟩
      · refine br_t ez ?_
        have G : wL_lawOf_168 ps mc ms (nI s) (nI j) x4 (nI R) x8 x9 0 kc ks (nI M) (nI R) fy fk 0 (fun _ => 0) (fun _ => 0) a3 a4 a5 a6 a7 a8 := by
          unfold wL_lawOf_168 wpX_get
          dsimp only
          refine fx_isS1 hs hM (br_f (by decide) (fx_isR1 hj hR (br_f (by decide) ⟨pk_in (8 * s + j) 32 (by omega) (fx_ix s j), br_f n8 (br_f n9 ?_)⟩)))
          exact fx_194 hM hR2 hR hon hcol (Or.inl ⟨rfl, fun _ => rfl⟩) H
        unfold wL_lawOf_139 wpX_set
        dsimp only
        refine fx_isS1 hs hM (br_f (by decide) (fx_isR1 hj hR (br_f (by decide) (br_c (fun _ => br_t rfl (br_f (by decide) G)) (fun e => br_f ?_ (br_t rfl (br_f (by decide) G)))))))
        exact Int32.not_le.mpr (hx4.resolve_left e)
      · refine br_f (by rw [ez]; decide) ?_
        unfold wL_lawOf_139 wpX_set
        dsimp only
        refine fx_isS1 hs hM (br_f (by decide) (fx_isR1 hj hR (br_f (by decide) (br_f hx4 (br_t (Int32.not_lt.mp hx4') ⟨pk_in (8 * s + j) 32 (by omega) (fx_ix s j), nm_r (congrArg (fun q => upd (fun _ => 0) q x4) (fx_cl s j (by omega))) (br_t rfl (br_t rfl ?_))⟩)))))
        unfold wL_lawOf_168 wpX_get
        dsimp only
        refine fx_isS1 hs hM (br_f (by decide) (fx_isR1 hj hR (br_f (by decide) ⟨pk_in (8 * s + j) 32 (by omega) (fx_ix s j), br_f n8 (br_f n9 ?_)⟩)))
        rw [fx_cl s j (by omega), pk_us]
        exact fx_194 hM hR2 hR hon (Or.inr ⟨n9, j, hj, rfl⟩) (Or.inr ⟨s, j, hs, hj, rfl, rfl⟩) H
theorem fx_55 (hM : M ≤ 4) (hR2 : 2 ≤ R) (hR : R ≤ 8) (hon : ∀ j, j < 8 → a3 j = 1) (H : ps 1 ()) :
    wL_lawOf_55 ps mc ms x2 x3 x4 (nI M) (nI R) kc ks (nI M) (nI R) fy fk 0 (fun _ => 0) (fun _ => 0) a3 a4 a5 a6 a7 a8 := by
  have A : ∀ y8 y9 : Int32, ((y8 = 0 ∧ (x2 < 0 ∨ nI M ≤ x2)) ∨ (y8 = 1 ∧ ∃ s, s < M ∧ x2 = nI s)) → ((y9 = 0 ∧ (x3 < 0 ∨ nI R ≤ x3)) ∨ (y9 = 1 ∧ ∃ j, j < R ∧ x3 = nI j)) → wL_lawOf_87 ps mc ms x2 x3 x4 (nI R) y8 y9 kc ks (nI M) (nI R) fy fk 0 (fun _ => 0) (fun _ => 0) a3 a4 a5 a6 a7 a8 := by
    intro y8 y9 h8 h9
    unfold wL_lawOf_87
    refine br_c (fun e => ?_) (fun e => br_c (fun e2 => ?_) (fun e2 => ?_))
    · exact fx_107 hM hR2 hR hon h8 h9 (Or.inl ⟨rfl, Or.inl e⟩) H
    · exact fx_107 hM hR2 hR hon h8 h9 (Or.inl ⟨rfl, Or.inr e2⟩) H
    · exact fx_107 hM hR2 hR hon h8 h9 (Or.inr ⟨rfl, e, e2⟩) H
  have B : ∀ y8 : Int32, ((y8 = 0 ∧ (x2 < 0 ∨ nI M ≤ x2)) ∨ (y8 = 1 ∧ ∃ s, s < M ∧ x2 = nI s)) → wL_lawOf_70 ps mc ms x2 x3 x4 (nI R) y8 kc ks (nI M) (nI R) fy fk 0 (fun _ => 0) (fun _ => 0) a3 a4 a5 a6 a7 a8 := by
    intro y8 h8
    unfold wL_lawOf_70
    refine br_c (fun e => ?_) (fun e => br_c (fun e2 => ?_) (fun e2 => ?_))
    · exact A y8 0 h8 (Or.inl ⟨rfl, Or.inl e⟩)
    · exact A y8 0 h8 (Or.inl ⟨rfl, Or.inr e2⟩)
    · refine A y8 1 h8 (Or.inr ⟨rfl, ?_⟩)
      exact ((pk_ix x3 (n := R) (by omega)).resolve_left e).resolve_left e2
  unfold wL_lawOf_55
  refine br_c (fun e => ?_) (fun e => br_c (fun e2 => ?_) (fun e2 => ?_))
  · exact B 0 (Or.inl ⟨rfl, Or.inl e⟩)
  · exact B 0 (Or.inl ⟨rfl, Or.inr e2⟩)
  · refine B 1 (Or.inr ⟨rfl, ?_⟩)
    exact ((pk_ix x2 (n := M) (by omega)).resolve_left e).resolve_left e2
end
/-- a number held between lo and hi: first the lower end, then the upper one -/
def fx_Cl (lo hi p x : Int32) : Prop := ((¬ lo ≤ p) ∧ lo ≤ hi ∧ x = lo) ∨ (lo ≤ p ∧ p ≤ hi ∧ x = p) ∨ (lo ≤ p ∧ (¬ p ≤ hi) ∧ x = hi)
theorem fx_clamp {lo hi p x : Int32} {K : Int32 → Prop} (h : fx_Cl lo hi p x) (k : K x) : (lo ≤ p → ((p ≤ hi → K p) ∧ (¬ p ≤ hi → K hi))) ∧ (¬ lo ≤ p → ((lo ≤ hi → K lo) ∧ (¬ lo ≤ hi → K hi))) := by
  rcases h with ⟨h1, h2, rfl⟩ | ⟨h1, h2, rfl⟩ | ⟨h1, h2, rfl⟩
  · exact br_f h1 (br_t h2 k)
  · exact br_t h1 (br_t h2 k)
  · exact br_t h1 (br_f h2 k)
theorem fx_clEx (p : Int32) {a b : Nat} (hab : a ≤ b) (hb : b < 2 ^ 31) : ∃ n, a ≤ n ∧ n ≤ b ∧ fx_Cl (nI a) (nI b) p (nI n) := by
  by_cases h1 : nI a ≤ p
  · by_cases h2 : p ≤ nI b
    · have h0 : ¬ p < 0 := by
        have g : (0 : Int32) ≤ nI a := nI_pos' (by omega)
        exact Int32.not_lt.mpr (Int32.le_trans g h1)
      obtain ⟨j, hj, rfl⟩ := nI_of h0
      exact ⟨j, (nI_leI (by omega) hj).mp h1, (nI_leI hj hb).mp h2, Or.inr (Or.inl ⟨h1, h2, rfl⟩)⟩
    · exact ⟨b, hab, Nat.le_refl b, Or.inr (Or.inr ⟨h1, h2, rfl⟩)⟩
  · exact ⟨a, Nat.le_refl a, hab, Or.inl ⟨h1, nI_le hab hb, rfl⟩⟩
theorem fx_init131 {post : St2 → Prop} {mc ms kc ks : Nat} {fm fr fy fk fc : Int32} {a1 a2 a3 a4 a5 a6 a7 a8 : Nat → Int32}
    (H : ∀ b3 : Nat → Int32, (∀ j, j < 8 → b3 j = 1) → post (fm, fr, fy, fk, fc, a1, a2, b3, a4, a5, a6, a7, a8)) :
    ∃ f, wX_init_131 post mc ms kc ks fm fr fy fk fc f 0 a1 a2 a3 a4 a5 a6 a7 a8 := by
  refine pk_loop (fun f i s => wX_init_131 post mc ms kc ks fm fr fy fk fc f (nI i) a1 a2 s a4 a5 a6 a7 a8) (fun i s => ∀ j, j < i → s j = 1) 8 0 a3 (by omega) (fun j hj => absurd hj (by omega)) (fun f s h => ?_) (fun f i s hi h hw => ?_)
  · exact pk_le 8 8 (fun _ => H s h) (fun z => absurd z (by omega))
  · refine pk_le 8 i (fun z => absurd z (by omega)) (fun _ => ⟨pk_in i 8 hi, nm_r (by rw [pk_cl i]) (nm_r (nI_1 i) (hw (upd s i 1) (fun j hj => ?_)))⟩)
    by_cases e : j = i
    · rw [e, pk_us]
    · rw [pk_un e]
      exact h j (by omega)
theorem fx_init {post : St2 → Prop} {p0 p1 : Int32} {M R : Nat} (hm : fx_Cl 1 4 p0 (nI M)) (hr : fx_Cl 2 8 p1 (nI R))
    (H : ∀ b3 : Nat → Int32, (∀ j, j < 8 → b3 j = 1) → post (nI M, nI R, 0, 0, 0, (fun _ => 0), (fun _ => 0), b3, (fun _ => 0), (fun _ => 0), (fun _ => 0), (fun _ => 0), (fun _ => 0))) :
    wpX_init post 8 3648 (0, 0, 0, 0, 0) p0 p1 := by
  unfold wpX_init
  dsimp only
  refine ⟨by omega, by omega, by omega, by omega, by omega, by omega, by omega, by omega, by omega, by omega, by omega, by omega, by omega, by omega, by omega, by omega, ?_⟩
  refine fx_clamp (K := fun z => wX_init_100 post 8 3648 p1 8 3648 z 0 0 0 0 (fun _ => 0) (fun _ => 0) (fun _ => 0) (fun _ => 0) (fun _ => 0) (fun _ => 0) (fun _ => 0) (fun _ => 0)) hm ?_
  refine fx_clamp (K := fun z => ∃ f, wX_init_131 post 8 3648 8 3648 (nI M) z 0 0 0 f 0 (fun _ => 0) (fun _ => 0) (fun _ => 0) (fun _ => 0) (fun _ => 0) (fun _ => 0) (fun _ => 0) (fun _ => 0)) hr ?_
  exact fx_init131 H
theorem fx_lawOf {ps : Int32 → St0 → Prop} (p0 p1 p2 p3 p4 : Int32) (H : ps 1 ()) : wpL_lawOf ps 9 3661 () p0 p1 p2 p3 p4 := by
  obtain ⟨M, hM1, hM, hm⟩ := fx_clEx p0 (a := 1) (b := 4) (by omega) (by omega)
  obtain ⟨R, hR2, hR, hr⟩ := fx_clEx p1 (a := 2) (b := 8) (by omega) (by omega)
  unfold wpL_lawOf
  refine ⟨by omega, by omega, 8, 3648, by omega, by omega, fx_init hm hr (fun b3 h3 => ?_)⟩
  refine fx_clamp (K := fun z => wL_lawOf_32 ps 9 3661 p1 p2 p3 p4 z (1 + 8) (13 + 3648) (nI M) (nI R) 0 0 0 (fun _ => 0) (fun _ => 0) b3 (fun _ => 0) (fun _ => 0) (fun _ => 0) (fun _ => 0) (fun _ => 0)) hm ?_
  refine fx_clamp (K := fun z => wL_lawOf_55 ps 9 3661 p2 p3 p4 (nI M) z (1 + 8) (13 + 3648) (nI M) (nI R) 0 0 0 (fun _ => 0) (fun _ => 0) b3 (fun _ => 0) (fun _ => 0) (fun _ => 0) (fun _ => 0) (fun _ => 0)) hr ?_
  exact fx_55 hM hR2 hR h3 H
theorem fx_cell {ps : Int32 → Prop} {L : Nat} {xs : Nat → Int32} (hL : L ≤ 5) {k : Nat} (hk : k < 5) (H : ∀ v, ps v) : wpL_cellAt ps L xs () (nI k) :=
  pk_le L k (fun _ => H 0) (fun z => ⟨pk_in k L z, H _⟩)
theorem i_vc (xs : Nat → Int32) (L : Nat) (hL : L ≤ 5) : wpL_law (fun r => r = 1) L xs := by
  unfold wpL_law
  refine fx_cell hL (k := 0) (by omega) (fun r1 => ?_)
  refine fx_cell hL (k := 1) (by omega) (fun r2 => ?_)
  refine fx_cell hL (k := 2) (by omega) (fun r3 => ?_)
  refine fx_cell hL (k := 3) (by omega) (fun r4 => ?_)
  refine fx_cell hL (k := 4) (by omega) (fun r5 => ?_)
  exact ⟨9, 3661, by omega, by omega, fx_lawOf r1 r2 r3 r4 r5 rfl⟩
end
