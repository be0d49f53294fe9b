section
/-! ===== the picture: place i of the list 'wide' holds dz_f a b i ===== -/
def dz_f (a b : Int32) (i : Nat) : Int32 := if (nI i &&& 1) = 0 then a >>> ((4 * nI i) &&& 31) else b <<< ((3 * nI i) &&& 31)
theorem dz_upd (f : Nat → Int32) (c : Nat) : upd f c (f c) = f := by
  funext j
  by_cases e : j = c
  · rw [e, pk_us]
  · rw [pk_un e]
/-- one row more, the picture stays as it is -/
theorem dz_rows_add {LP LP' : List Nat} {p p' : Nat → Int32} {ad : Nat → Nat} {a : Nat → Option Nat} {f : Nat → Int32} {c y : Nat} (h : bx_rows LP p ad a f c) (hk : ∀ z w, vb_bx LP p ad z w → vb_bx LP' p' ad z w) (hx : vb_bx LP' p' ad y (f c)) : bx_rows LP' p' ad (va_up a c (some y)) f (c + 1) := by
  have k := bx_rows_add h hk hx
  rw [dz_upd] at k
  exact k
/-! ===== the JDK's members ===== -/
/-- Integer.valueOf: the caller needn't know whether the box is new -/
theorem dz_valueOf {post : Option Nat → StJd1a94 → Prop} {mc ms : Nat} {adB : Nat → Nat} {LP : List Nat} {p : Nat → Int32} (v : Int32) (hm : 1 ≤ mc) (hs : 1 ≤ ms)
    (h : ∀ y LP' p', vb_bx LP' p' adB y v → (∀ z w, vb_bx LP p adB z w → vb_bx LP' p' adB z w) → post (some y) (LP', p')) : wpJ6_valueOf_2dffe_e41c5 post mc ms adB (LP, p) v := by
  have key : wJ6_valueOf_2dffe_e41c5_23 post mc ms adB v 0 0 LP p := by
    refine ⟨by omega, by omega, fun q hq => ⟨Or.inl (List.mem_append.mpr (Or.inr (List.mem_singleton.mpr rfl))), ?_⟩⟩
    show q ∈ LP ++ [q] ∧ post (some q) (LP ++ [q], va_up (va_up p q 0) q v)
    rw [bx_uu]
    exact ⟨List.mem_append.mpr (Or.inr (List.mem_singleton.mpr rfl)), h q _ _ bx_new (fun z w hz => bx_grow hz hq)⟩
  refine ⟨fun _ => key, fun h1 => ⟨fun _ => key, fun h2 => ?_⟩⟩
  obtain ⟨j, hj, e, ev⟩ := bx_small h1 h2
  rw [e, nI_clamp (by omega)]
  exact ⟨vp_in_nI hj (by omega), h _ _ _ (Or.inr ⟨j, hj, rfl, ev⟩) (fun z w hz => hz)⟩
/-- add with room -/
theorem dz_add {post : Int32 → StJ174e4 → Prop} {mc ms : Nat} {adB : Nat → Nat} {m : Int32} {c n : Nat} {a : Nat → Option Nat} {LP : List Nat} {p : Nat → Int32} {q : Nat} (hc : c < n) (hn : n < 2 ^ 31) (hq : vb_bm LP adB q)
    (h : post 1 (m + 1, nI (c + 1), va_up a c (some q), n, LP, p)) : wpJx4a65c_add_9ea2d_fa824 post mc ms adB (m, nI c, a, n, LP, p) q := by
  intro f1 e1
  subst e1
  refine ⟨0, 0, by omega, by omega, br_f (fun z => absurd ((nI_eq (by omega) hn).mp z) (by omega)) ⟨vp_in_nI hc hn, hq, ?_⟩⟩
  intro a' ea f' ef
  rw [nI_clamp (by omega)] at ea
  rw [nI_1] at ef
  subst ea ef
  exact h
/-- the first add of all: ten places are made -/
theorem dz_add_first {post : Int32 → StJ174e4 → Prop} {mc ms : Nat} {adB : Nat → Nat} {m : Int32} {LP : List Nat} {p : Nat → Int32} {q : Nat} (hm : 1 ≤ mc) (hs : 10 ≤ ms) (hq : vb_bm LP adB q)
    (h : post 1 (m + 1, nI 1, va_up (fun _ => none) 0 (some q), 10, LP, p)) : wpJx4a65c_add_9ea2d_8607b post mc ms adB (m, 0, LP, p) q := by
  intro f1 e1
  subst e1
  refine ⟨1, 10, by omega, by omega, br_t rfl ⟨1, 10, by omega, by omega, ⟨1, 10, by omega, by omega, by decide, ?_⟩⟩⟩
  intro n en
  have e10 : n = 10 := en.trans (by decide)
  subst e10
  refine ⟨by decide, by decide, by decide, ⟨by unfold vp_in; decide, hq, ?_⟩⟩
  intro a' ea f' ef
  have ea' : a' = va_up (fun _ => none) 0 (some q) := ea.trans (by rw [show (0 : Int32).toNatClampNeg = 0 by decide])
  have ef' : f' = nI 1 := ef.trans (by decide)
  subst ea' ef'
  exact h
/-- get(i) of a list of c elements -/
theorem dz_get {post : Option Nat → Prop} {adB : Nat → Nat} {m : Int32} {c n i y : Nat} {a : Nat → Option Nat} {LP : List Nat} {p : Nat → Int32} (hi : i < c) (hc : c ≤ n) (hn : n < 2 ^ 31) (hy : a i = some y) (h : post (some y)) : wpJx4a65c_get_915e3_e1769 post adB (m, nI c, a, n, LP, p) (nI i) := by
  have e : a (nI i).toNatClampNeg = some y := by rw [nI_clamp (by omega)]; exact hy
  exact br_f (nI_pos (by omega)) (br_t (nI_lt hi (by omega)) ⟨vp_in_nI (by omega) hn, op_s e (op_s rfl h)⟩)
/-! ===== wide: the list of N places ===== -/
/-- one turn behind the first -/
theorem dz_47_2 {post : (St2 ⊕ St3) → Prop} {mc ms : Nat} {adB : Nat → Nat} {J} {x0 x1 x4 z m : Int32} {c kc ks : Nat} {a : Nat → Option Nat} {LP : List Nat} {p : Nat → Int32} (hc : c < 10) (hk : kc + 1 ≤ mc) (hs : ks + 1 ≤ ms)
    (h : ∀ y LP' p', vb_bx LP' p' adB y z → (∀ t w, vb_bx LP p adB t w → vb_bx LP' p' adB t w) → J (.inr (x0, x1, x4, nI (c + 1), kc + 1, ks + 1, m + 1, nI (c + 1), va_up a c (some y), 10, LP', p'))) :
    wL_wide_47_2 post mc ms adB J x0 x1 x4 (nI c) z kc ks m (nI c) a 10 LP p := by
  refine ⟨1, 1, hk, hs, dz_valueOf z (Nat.le_refl _) (Nat.le_refl _) fun y LP' p' hx hg => op_s rfl ⟨0, 0, by omega, by omega, ?_⟩⟩
  exact dz_add hc (by omega) hx.bm (nm_r (nI_1 c) (h y LP' p' hx hg))
/-- the first turn -/
theorem dz_47 {post : (St2 ⊕ St3) → Prop} {mc ms : Nat} {adB : Nat → Nat} {J} {x0 x1 x4 z m : Int32} {kc ks : Nat} {LP : List Nat} {p : Nat → Int32} (hk : kc + 2 ≤ mc) (hs : ks + 11 ≤ ms)
    (h : ∀ y LP' p', vb_bx LP' p' adB y z → (∀ t w, vb_bx LP p adB t w → vb_bx LP' p' adB t w) → J (.inr (x0, x1, x4, nI 1, kc + 1 + 1, ks + 1 + 10, m + 1, nI 1, va_up (fun _ => none) 0 (some y), 10, LP', p'))) :
    wL_wide_47 post mc ms adB J x0 x1 x4 0 z kc ks m 0 LP p := by
  refine ⟨1, 1, by omega, by omega, dz_valueOf z (Nat.le_refl _) (Nat.le_refl _) fun y LP' p' hx hg => op_s rfl ⟨1, 10, by omega, by omega, ?_⟩⟩
  exact dz_add_first (Nat.le_refl _) (Nat.le_refl _) hx.bm (nm_r (by decide) (h y LP' p' hx hg))
/-- the loop behind the first turn -/
theorem dz_17 {post : (St2 ⊕ St3) → Prop} {mc ms : Nat} {adB : Nat → Nat} {a b : Int32} {N : Nat} (hN : N ≤ 7) (hm : 9 ≤ mc) (hs : 20 ≤ ms)
    (h : ∀ m arr LP p, bx_rows LP p adB arr (dz_f a b) N → post (.inr (m, nI N, arr, 10, LP, p))) :
    ∀ (n i kc ks : Nat) (m : Int32) (arr : Nat → Option Nat) (LP : List Nat) (p : Nat → Int32), i ≤ N → N < n + i → kc ≤ 2 + i → ks ≤ 13 + i → bx_rows LP p adB arr (dz_f a b) i →
      wL_wide_17 post mc ms adB n (.inr (a, b, nI N, nI i, kc, ks, m, nI i, arr, 10, LP, p)) := by
  intro n
  induction n with
  | zero => intro i kc ks m arr LP p h1 h2; omega
  | succ n ih =>
    intro i kc ks m arr LP p h1 h2 h3 h4 hr
    by_cases hi : i = N
    · subst hi
      exact ⟨fun _ => h m arr LP p hr, fun z => absurd (nI_le (Nat.le_refl i) (by omega)) z⟩
    · refine ⟨fun z => absurd z (nI_ge (by omega) (by omega)), fun _ => ⟨fun e => ?_, fun e => ?_⟩⟩
      · refine dz_47_2 (by omega) (by omega) (by omega) fun y LP' p' hx hg => ih (i + 1) _ _ _ _ _ _ (by omega) (by omega) (by omega) (by omega) (dz_rows_add hr hg ?_)
        rw [dz_f, if_pos e]
        exact hx
      · refine dz_47_2 (by omega) (by omega) (by omega) fun y LP' p' hx hg => ih (i + 1) _ _ _ _ _ _ (by omega) (by omega) (by omega) (by omega) (dz_rows_add hr hg ?_)
        rw [dz_f, if_neg e]
        exact hx
/-- wide(a, b, s): no place at all, or N places that match the picture -/
theorem dz_wide {post : (St2 ⊕ St3) → Prop} {mc ms : Nat} {adB : Nat → Nat} {a b s : Int32} {N : Nat} {LP : List Nat} {p : Nat → Int32} (es : s &&& 7 = nI N) (hN : N ≤ 7) (hm : 9 ≤ mc) (hs : 20 ≤ ms)
    (h0 : N = 0 → post (.inl (0, 0, LP, p)))
    (h1 : 0 < N → ∀ m arr LP p, bx_rows LP p adB arr (dz_f a b) N → post (.inr (m, nI N, arr, 10, LP, p))) : wpL_wide post mc ms adB (LP, p) a b s := by
  refine ⟨by omega, by omega, nm_r es ⟨N + 1, ?_⟩⟩
  by_cases hz : N = 0
  · refine br_t ?_ (h0 hz)
    subst hz
    decide
  · refine br_f (nI_nle (by omega) (by omega)) (br_t (by decide) (dz_47 (by omega) (by omega) fun y LP' p' hx hg => ?_))
    refine dz_17 hN hm hs (h1 (by omega)) N 1 _ _ _ _ _ _ (by omega) (by omega) (by omega) (by omega) (dz_rows_add bx_rows_0 hg ?_)
    exact hx
/-! ===== the class's total ===== -/
theorem dz_total0 {post : Int32 → St1 → Prop} {mc ms : Nat} {adB : Nat → Nat} {m : Int32} {LP : List Nat} {p : Nat → Int32} (hm : 1 ≤ mc) (hs : 4 ≤ ms) (h : post 0 (LP, p)) : wpX0_total post mc ms adB (m, 0, LP, p) :=
  ⟨1, 4, by omega, by omega, by omega, by omega, 1, br_t rfl (br_t rfl h)⟩
theorem dz_total_9 {post : Int32 → St1 → Prop} {mc ms kc ks : Nat} {adB : Nat → Nat} {mod : Int32} {c N : Nat} {a : Nat → Option Nat} {f : Nat → Int32} {LP : List Nat} {p : Nat → Int32} (hr : bx_rows LP p adB a f c) (hcn : c ≤ N) (hn : N < 2 ^ 31)
    (h : post (bx_sum f c) (LP, p)) : ∀ (n j : Nat) (lr : Int32), j ≤ c → c < n + j → wX0_total_2_9 post mc ms adB kc ks n (bx_sum f j) (nI j) lr mod mod (nI c) a N LP p := by
  intro n
  induction n with
  | zero => intro j lr h1 h2; omega
  | succ n ih =>
    intro j lr h1 h2
    by_cases hj : j = c
    · subst hj
      exact br_t rfl (br_t rfl h)
    · obtain ⟨y, ha, hx⟩ := hr j (by omega)
      have hc : a (nI j).toNatClampNeg = some y := by rw [nI_clamp (by omega)]; exact ha
      refine br_f (fun z => absurd ((nI_eq (by omega) (by omega)).mp z) hj) (br_f (by decide) ?_)
      refine br_t rfl (br_t (nI_lt (by omega) (by omega)) (br_t (nI_lt (by omega) hn) (nm_r (nI_1 j) ⟨vp_in_nI (by omega) hn, op_s hc (op_s rfl ⟨hx.bm, f j, hx, nm_e ?_⟩)⟩)))
      exact ih (j + 1) _ (by omega) (by omega)
theorem dz_total {post : Int32 → St1 → Prop} {mc ms : Nat} {adB : Nat → Nat} {mod : Int32} {c N : Nat} {a : Nat → Option Nat} {f : Nat → Int32} {LP : List Nat} {p : Nat → Int32} (hr : bx_rows LP p adB a f c) (hcn : c ≤ N) (hn : N < 2 ^ 31) (hm : 1 ≤ mc) (hs : 4 ≤ ms)
    (h : post (bx_sum f c) (LP, p)) : wpX0_total_2 post mc ms adB (mod, nI c, a, N, LP, p) :=
  ⟨1, 4, by omega, by omega, by omega, by omega, c + 1, dz_total_9 hr hcn hn h (c + 1) 0 (-1) (Nat.zero_le _) (by omega)⟩
/-! ===== the twin's total: from the back ===== -/
theorem dz_plain0 {post : Int32 → Prop} {adB : Nat → Nat} {m : Int32} {LP : List Nat} {p : Nat → Int32} (h : post 0) : wpX1_total post adB (m, 0, LP, p) :=
  nm_e ⟨1, br_t (by decide) h⟩
theorem dz_step (x f s S : Int32) (h : x + (s + f) = S) : x + f + s = S := by
  rw [← h, Int32.add_comm s f, Int32.add_assoc]
theorem dz_m1 (x : Int32) : x + (-1) = x - 1 := (Int32.sub_eq_add_neg x 1).symm
theorem dz_plain_11 {post : Int32 → Prop} {adB : Nat → Nat} {mod S : Int32} {c N : Nat} {a : Nat → Option Nat} {f : Nat → Int32} {LP : List Nat} {p : Nat → Int32} (hr : bx_rows LP p adB a f c) (hcn : c ≤ N) (hn : N < 2 ^ 31) (h : post S) :
    ∀ (n j : Nat) (x : Int32), j ≤ c → j < n → x + bx_sum f j = S → wX1_total_2_11 post adB mod (nI c) a N LP p n x (nI j - 1) := by
  intro n
  induction n with
  | zero => intro j x h1 h2; omega
  | succ n ih =>
    intro j x h1 h2 hx
    cases j with
    | zero =>
      have e : x = S := by rw [← hx]; exact (Int32.add_zero x).symm
      subst e
      exact br_t (by decide) h
    | succ j =>
      obtain ⟨y, ha, hb⟩ := hr j (by omega)
      rw [nI_pred]
      refine br_f (nI_pos (by omega)) (dz_get (by omega) hcn hn ha (op_s rfl ⟨hb.bm, f j, hb, nm_e (nm_r (dz_m1 (nI j)) ?_)⟩))
      exact ih j _ (by omega) (by omega) (dz_step _ _ _ _ hx)
theorem dz_plain {post : Int32 → Prop} {adB : Nat → Nat} {mod : Int32} {c N : Nat} {a : Nat → Option Nat} {f : Nat → Int32} {LP : List Nat} {p : Nat → Int32} (hr : bx_rows LP p adB a f c) (hcn : c ≤ N) (hn : N < 2 ^ 31) (h : post (bx_sum f c)) :
    wpX1_total_2 post adB (mod, nI c, a, N, LP, p) :=
  nm_e ⟨c + 1, dz_plain_11 hr hcn hn h (c + 1) c 0 (Nat.le_refl _) (by omega) (Int32.zero_add _)⟩
end
section
theorem dz_lawOf {post : Int32 → St1 → Prop} {adB : Nat → Nat} {LP : List Nat} {p : Nat → Int32} (a b s : Int32) (h : ∀ u, post 1 u) : wpL_lawOf post 24 384 adB (LP, p) a b s := by
  obtain ⟨N, hN, es⟩ := pk_andE s (m := 7) 3 (by decide)
  refine ⟨9, 20, by omega, by omega, dz_wide es (by omega) (Nat.le_refl _) (Nat.le_refl _) (fun hz => ?_) (fun hp m arr LP1 p1 hr => ?_)⟩
  · refine ⟨1, 4, by omega, by omega, dz_total0 (Nat.le_refl _) (Nat.le_refl _) ⟨9, 20, by omega, by omega, dz_wide es (by omega) (Nat.le_refl _) (Nat.le_refl _) (fun _ => ?_) (fun hp => absurd hp (by omega))⟩⟩
    exact dz_plain0 (br_t rfl (h _))
  · refine ⟨1, 4, by omega, by omega, dz_total hr (by omega) (by omega) (Nat.le_refl _) (Nat.le_refl _) ⟨9, 20, by omega, by omega, dz_wide es (by omega) (Nat.le_refl _) (Nat.le_refl _) (fun hz => absurd hp (by omega)) (fun _ m2 arr2 LP2 p2 hr2 => ?_)⟩⟩
    exact dz_plain hr2 (by omega) (by omega) (br_t rfl (h _))
theorem dz_cell {post : Int32 → Prop} {L : Nat} {xs : Nat → Int32} (hL : L ≤ 3) (k : Nat) (hk : k < 3) (h : ∀ r, post r) : wpL_cellAt post L xs () (nI k) :=
  ⟨fun _ => h _, fun z => ⟨vp_in_nI (Nat.lt_of_not_le fun w => z (nI_le w (by omega))) (by omega), h _⟩⟩
theorem i_vc (xs : Nat → Int32) (L : Nat) (hL : L ≤ 3) : wpL_law (fun r => r = 1) L xs := by
  intro adB
  refine dz_cell hL 0 (by omega) fun a => dz_cell hL 1 (by omega) fun b => dz_cell hL 2 (by omega) fun s => ?_
  exact ⟨24, 384, by omega, by omega, dz_lawOf a b s (fun _ => rfl)⟩
end
