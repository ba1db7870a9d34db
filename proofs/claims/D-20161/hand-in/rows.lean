section
/-! Part 1: the library's members over a list of boxes (turned from the worked proof 'list-of-integers' and the starting text LIST-LAWS.2) -/
/-- Integer.valueOf: a box that holds v; every box that was there holds what it held -/
theorem dm_valueOf {post : Option Nat → StJd1a94 → Prop} {mc ms : Nat} {adB : Nat → Nat} {LP : List Nat} {p : Nat → Int32} (v : Int32) (hm : 1 ≤ mc) (hs : 1 ≤ ms)
    (h : ∀ y LP' p', vb_bx LP' p' adB y v → (∀ z w, vb_bx LP p adB z w → vb_bx LP' p' adB z w) → post (some y) (LP', p')) : wpJ6_valueOf_2dffe_e41c5 post mc ms adB (LP, p) v := by
  have key : wJ6_valueOf_2dffe_e41c5_23 post mc ms adB v 0 0 LP p := by
    refine ⟨by omega, by omega, fun q hq => ⟨Or.inl (List.mem_append.mpr (Or.inr (List.mem_singleton.mpr rfl))), ?_⟩⟩
    show q ∈ LP ++ [q] ∧ post (some q) (LP ++ [q], va_up (va_up p q 0) q v)
    rw [bx_uu]
    exact ⟨List.mem_append.mpr (Or.inr (List.mem_singleton.mpr rfl)), h q _ _ bx_new (fun z w hz => bx_grow hz hq)⟩
  refine ⟨fun _ => key, fun h1 => ⟨fun _ => key, fun h2 => ?_⟩⟩
  obtain ⟨j, hj, e, ev⟩ := bx_small h1 h2
  rw [e, nI_clamp (by omega)]
  exact ⟨vp_in_nI hj (by omega), h _ _ _ (Or.inr ⟨j, hj, rfl, ev⟩) (fun z w hz => hz)⟩
/-- add on the list that has no array yet: ten places are made -/
theorem dm_addFirst {post : Int32 → StJ174e4 → Prop} {mc ms : Nat} {adB : Nat → Nat} {m : Int32} {LP : List Nat} {p : Nat → Int32} {q : Nat} (hm : 1 ≤ mc) (hs : 10 ≤ ms) (hq : vb_bm LP adB q)
    (h : post 1 (m + 1, nI 1, va_up (fun _ => none) 0 (some q), 10, LP, p)) : wpJx4a65c_add_9ea2d_8607b post mc ms adB (m, 0, LP, p) q := by
  intro f1 e1
  subst e1
  refine ⟨1, 10, by omega, by omega, br_t rfl ⟨1, 10, by omega, by omega, ⟨1, 10, by omega, by omega, by decide, ?_⟩⟩⟩
  intro n en
  have e10 : n = 10 := en.trans (by decide)
  subst e10
  refine ⟨by decide, by decide, by decide, ⟨vp_in_nI (n := 0) (by omega) (by omega), hq, ?_⟩⟩
  intro a' ea f' ef
  have ea' : a' = va_up (fun _ => none) 0 (some q) := ea
  have ef' : f' = nI 1 := ef.trans (by decide)
  subst ea' ef'
  exact h
/-- add with room -/
theorem dm_add {post : Int32 → StJ174e4 → Prop} {mc ms : Nat} {adB : Nat → Nat} {m : Int32} {c n : Nat} {a : Nat → Option Nat} {LP : List Nat} {p : Nat → Int32} {q : Nat} (hc : c < n) (hn : n < 2 ^ 31) (hq : vb_bm LP adB q)
    (h : post 1 (m + 1, nI (c + 1), va_up a c (some q), n, LP, p)) : wpJx4a65c_add_9ea2d_fa824 post mc ms adB (m, nI c, a, n, LP, p) q := by
  intro f1 e1
  subst e1
  refine ⟨0, 0, by omega, by omega, br_f (fun z => absurd ((nI_eq (by omega) hn).mp z) (by omega)) ⟨vp_in_nI hc hn, hq, ?_⟩⟩
  intro a' ea f' ef
  rw [nI_clamp (by omega)] at ea
  rw [nI_1] at ef
  subst ea ef
  exact h
end
section
/-! Part 2: the class's doubledMark and its twin's, each over any list of c boxes that hold f 0 .. f (c - 1) -/
/-- ListSteps.doubledMark: twice the k-th int and the count -/
theorem dm_x0 {post : Int32 → Prop} {adB : Nat → Nat} {mod : Int32} {c n k : Nat} {a : Nat → Option Nat} {f : Nat → Int32} {LP : List Nat} {p : Nat → Int32} (hr : bx_rows LP p adB a f c) (hk : k < c) (hcn : c ≤ n) (hn : n < 2 ^ 31)
    (h : post (f k * 2 + nI c)) : wpX0_doubledMark_2 post adB (mod, nI c, a, n, LP, p) (nI k) := by
  obtain ⟨y, ha, hx⟩ := hr k hk
  have hc : a (nI k).toNatClampNeg = some y := by rw [nI_clamp (by omega)]; exact ha
  refine ⟨fun z => absurd z (nI_pos (by omega)), fun _ => ⟨fun _ => ?_, fun z => absurd (nI_lt hk (by omega)) z⟩⟩
  refine ⟨vp_in_nI (by omega) hn, fun z => absurd (z.symm.trans hc) (by simp), fun y2 e2 => ?_⟩
  cases e2.symm.trans hc
  refine ⟨fun z => (by cases z), fun y3 e3 => ?_⟩
  cases e3
  refine ⟨fun z => (by cases z), fun y4 e4 => ?_⟩
  cases e4
  exact ⟨hx.bm, _, hx, h⟩
/-- the twin's mark behind j turns: 0 until the k-th int was passed -/
def dm_mk (f : Nat → Int32) (k j : Nat) : Int32 := if k < j then f k else 0
theorem dm_mk_at (f : Nat → Int32) (k : Nat) : dm_mk f k (k + 1) = f k := if_pos (Nat.lt_succ_self k)
theorem dm_mk_in {f : Nat → Int32} {k c : Nat} (h : k < c) : dm_mk f k c = f k := if_pos h
theorem dm_mk_0 (f : Nat → Int32) (k : Nat) : dm_mk f k 0 = 0 := if_neg (Nat.not_lt_zero k)
theorem dm_mk_ne {f : Nat → Int32} {k j : Nat} (h : j ≠ k) : dm_mk f k (j + 1) = dm_mk f k j := by
  unfold dm_mk
  by_cases c : k < j
  · rw [if_pos c, if_pos (by omega)]
  · rw [if_neg c, if_neg (by omega)]
/-- the twin's loop over the iterator -/
theorem dm_x1_12 {post : Int32 → St3 → Prop} {mc ms kc ks : Nat} {adB : Nat → Nat} {mod : Int32} {c N k : Nat} {a : Nat → Option Nat} {f : Nat → Int32} {LP : List Nat} {p : Nat → Int32} (hr : bx_rows LP p adB a f c) (hk : k < c) (hcn : c ≤ N) (hn : N < 2 ^ 31)
    (h : post (f k + f k + nI c) (mod, nI c, a, N, LP, p)) : ∀ (n j : Nat) (lr : Int32), j ≤ c → c < n + j → wX1_doubledMark_2_12 post mc ms adB (nI k) kc ks n (nI j) (dm_mk f k j) mod (nI c) a N (nI j) lr mod LP p := by
  intro n
  induction n with
  | zero => intro j lr h1 h2; omega
  | succ n ih =>
    intro j lr h1 h2
    by_cases hj : j = c
    · subst hj
      rw [dm_mk_in hk]
      exact ⟨fun _ => ⟨fun _ => h, fun z => absurd rfl z⟩, fun z => absurd rfl z⟩
    · obtain ⟨y, ha, hx⟩ := hr j (by omega)
      have hc : a (nI j).toNatClampNeg = some y := by rw [nI_clamp (by omega)]; exact ha
      refine ⟨fun z => absurd ((nI_eq (by omega) (by omega)).mp z) hj, fun _ => ⟨fun z => absurd z (by decide), fun _ => ?_⟩⟩
      refine ⟨fun _ => ?_, fun z => absurd rfl z⟩
      refine ⟨fun _ => ⟨fun _ f4 e4 => ⟨vp_in_nI (by omega) hn, ?_⟩, fun z => absurd (nI_lt (a := j) (b := N) (by omega) hn) z⟩, fun z => absurd (nI_lt (a := j) (b := c) (by omega) (by omega)) z⟩
      refine ⟨fun z => absurd (z.symm.trans hc) (by simp), fun y2 e2 => ?_⟩
      cases e2.symm.trans hc
      have e4' : f4 = nI (j + 1) := e4.trans (nI_1 j)
      subst e4'
      refine ⟨fun z => (by cases z), fun y3 e3 => ?_⟩
      cases e3
      refine ⟨hx.bm, fun ejk => ?_, fun njk => ?_⟩
      · have ek : j = k := (nI_eq (by omega) (by omega)).mp ejk
        subst ek
        refine ⟨f j, hx, fun x2 ex => ?_⟩
        have ex' : x2 = nI (j + 1) := ex.trans (nI_1 j)
        subst ex'
        have hi := ih (j + 1) (nI j) (by omega) (by omega)
        rw [dm_mk_at] at hi
        exact hi
      · have nk : j ≠ k := fun e => njk (by rw [e])
        intro x2 ex
        have ex' : x2 = nI (j + 1) := ex.trans (nI_1 j)
        subst ex'
        have hi := ih (j + 1) (nI j) (by omega) (by omega)
        rw [dm_mk_ne nk] at hi
        exact hi
/-- ListStepsPlain.doubledMark: the k-th int twice over and the count; the list is as it was -/
theorem dm_x1 {post : Int32 → St3 → Prop} {mc ms : Nat} {adB : Nat → Nat} {mod : Int32} {c N k : Nat} {a : Nat → Option Nat} {f : Nat → Int32} {LP : List Nat} {p : Nat → Int32} (hr : bx_rows LP p adB a f c) (hk : k < c) (hcn : c ≤ N) (hn : N < 2 ^ 31) (hm : 1 ≤ mc) (hs : 4 ≤ ms)
    (h : post (f k + f k + nI c) (mod, nI c, a, N, LP, p)) : wpX1_doubledMark_2 post mc ms adB (mod, nI c, a, N, LP, p) (nI k) := by
  refine ⟨mc, ms, by omega, by omega, hm, hs, c + 1, ?_⟩
  have hi := dm_x1_12 (mc := mc) (ms := ms) (kc := 0 + mc) (ks := 0 + ms) hr hk hcn hn h (c + 1) 0 (-1) (Nat.zero_le _) (by omega)
  rw [dm_mk_0] at hi
  exact hi
end
section
/-! Part 3: the law's loop and the top -/
/-- one turn of the filling loop on a list that has its array -/
theorem dm_51_2 {post : Int32 → St1 → Prop} {mc ms : Nat} {adB : Nat → Nat} {J} {x0 x1 x3 x5 z0 mod : Int32} {i kc ks : Nat} {a : Nat → Option Nat} {LP : List Nat} {p : Nat → Int32} (hi : i < 10) (hm : kc + 1 ≤ mc) (hs : ks + 1 ≤ ms)
    (hJ : ∀ y LP' p', vb_bx LP' p' adB y z0 → (∀ z w, vb_bx LP p adB z w → vb_bx LP' p' adB z w) → J (.inr (x0, x1, x3, x5, nI (i + 1), kc + 1, ks + 1, mod + 1, nI (i + 1), va_up a i (some y), 10, LP', p'))) :
    wL_lawOf_51_2 post mc ms adB J x0 x1 x3 x5 (nI i) z0 kc ks mod (nI i) a 10 LP p := by
  refine ⟨1, 1, hm, hs, dm_valueOf z0 (Nat.le_refl _) (Nat.le_refl _) fun y LP' p' hx hk => ⟨fun z => (by cases z), fun y2 e2 => ?_⟩⟩
  cases e2
  refine ⟨0, 0, hm, hs, dm_add hi (by omega) hx.bm ?_⟩
  intro x6 e6
  have e6' : x6 = nI (i + 1) := e6.trans (nI_1 i)
  subst e6'
  exact hJ y LP' p' hx hk
/-- the first turn: the list's array is made -/
theorem dm_51 {post : Int32 → St1 → Prop} {mc ms : Nat} {adB : Nat → Nat} {J} {x0 x1 x3 x5 z0 mod : Int32} {kc ks : Nat} {LP : List Nat} {p : Nat → Int32} (hm : kc + 2 ≤ mc) (hs : ks + 11 ≤ ms)
    (hJ : ∀ y LP' p', vb_bx LP' p' adB y z0 → (∀ z w, vb_bx LP p adB z w → vb_bx LP' p' adB z w) → J (.inr (x0, x1, x3, x5, nI 1, kc + 1 + 1, ks + 1 + 10, mod + 1, nI 1, va_up (fun _ => none) 0 (some y), 10, LP', p'))) :
    wL_lawOf_51 post mc ms adB J x0 x1 x3 x5 0 z0 kc ks mod 0 LP p := by
  refine ⟨1, 1, by omega, by omega, dm_valueOf z0 (Nat.le_refl _) (Nat.le_refl _) fun y LP' p' hx hk => ⟨fun z => (by cases z), fun y2 e2 => ?_⟩⟩
  cases e2
  refine ⟨1, 10, by omega, by omega, dm_addFirst (Nat.le_refl _) (Nat.le_refl _) hx.bm ?_⟩
  intro x6 e6
  have e6' : x6 = nI 1 := e6.trans (by decide)
  subst e6'
  exact hJ y LP' p' hx hk
/-- the answers agree -/
theorem dm_eq (v s : Int32) : v * 2 + s = v + v + s := by grind
/-- the loop, behind its first turn: i boxes stand in the list -/
theorem dm_20 {post : Int32 → St1 → Prop} {adB : Nat → Nat} {x0 x1 x3 : Int32} {N : Nat} (hp : ∀ u, post 1 u) (h0 : 0 < N) (hN : N ≤ 8) : ∀ (n i kc ks : Nat) (mod : Int32) (a : Nat → Option Nat) (f : Nat → Int32) (LP : List Nat) (p : Nat → Int32), i ≤ N → N < n + i → kc ≤ 4 + i → ks ≤ 20 + i → bx_rows LP p adB a f i →
    wL_lawOf_20 post 14 224 adB n (.inr (x0, x1, x3, nI N, nI i, kc, ks, mod, nI i, a, 10, LP, p)) := by
  intro n
  induction n with
  | zero => intro i kc ks mod a f LP p h1 h2; omega
  | succ n ih =>
    intro i kc ks mod a f LP p h1 h2 h3 h4 hr
    by_cases hi : i = N
    · subst hi
      obtain ⟨j, hj, ej⟩ := pk_andE x3 (m := 7) 3 (by decide)
      refine ⟨fun _ => ⟨nI_ne0 h0 (by omega), fun x ex => ?_⟩, fun z => absurd (nI_le (Nat.le_refl i) (by omega)) z⟩
      have ex' : x = nI (j % i) := by rw [ex, ej]; exact pk_rem (by omega) h0 (by omega)
      subst ex'
      have hk : j % i < i := Nat.mod_lt _ h0
      refine dm_x0 hr hk (by omega) (by omega) ⟨1, 4, by omega, by omega, dm_x1 hr hk (by omega) (by omega) (Nat.le_refl _) (Nat.le_refl _) ?_⟩
      exact ⟨fun _ => hp _, fun z => absurd (dm_eq _ _) z⟩
    · refine ⟨fun z => absurd z (nI_ge (by omega) (by omega)), fun _ => ⟨fun _ => ?_, fun _ => ?_⟩⟩
      · exact dm_51_2 (by omega) (by omega) (by omega) fun y LP' p' hx hk => ih (i + 1) _ _ _ _ _ _ _ (by omega) (by omega) (by omega) (by omega) (bx_rows_add hr hk hx)
      · exact dm_51_2 (by omega) (by omega) (by omega) fun y LP' p' hx hk => ih (i + 1) _ _ _ _ _ _ _ (by omega) (by omega) (by omega) (by omega) (bx_rows_add hr hk hx)
/-- .. and from its start -/
theorem dm_start {post : Int32 → St1 → Prop} {adB : Nat → Nat} {x0 x1 x3 : Int32} {N : Nat} (hp : ∀ u, post 1 u) (h0 : 0 < N) (hN : N ≤ 8) :
    wL_lawOf_20 post 14 224 adB (N + 1) (.inl (x0, x1, x3, nI N, 0, 1, 3, 0, 0, [], fun _ => 0)) := by
  refine ⟨fun z => absurd z (nI_nle h0 (by omega)), fun _ => ⟨fun _ => ?_, fun _ => ?_⟩⟩
  · exact dm_51 (by omega) (by omega) fun y LP' p' hx hk => dm_20 hp h0 hN N 1 _ _ _ _ _ _ _ (by omega) (by omega) (by omega) (by omega) (bx_rows_add (f := fun _ => 0) bx_rows_0 hk hx)
  · exact dm_51 (by omega) (by omega) fun y LP' p' hx hk => dm_20 hp h0 hN N 1 _ _ _ _ _ _ _ (by omega) (by omega) (by omega) (by omega) (bx_rows_add (f := fun _ => 0) bx_rows_0 hk hx)
theorem dm_lawOf {post : Int32 → St1 → Prop} {adB : Nat → Nat} (p0 p1 p2 p3 : Int32) (hp : ∀ u, post 1 u) : wpL_lawOf post 14 224 adB ([], fun _ => 0) p0 p1 p2 p3 := by
  obtain ⟨j, hj, ej⟩ := pk_andE p2 (m := 7) 3 (by decide)
  refine ⟨by omega, by omega, fun x5 e5 => ⟨j + 1 + 1, ?_⟩⟩
  have e5' : x5 = nI (j + 1) := by
    rw [e5, ej, Nat.add_comm]
    exact nI_add 1 j
  subst e5'
  exact dm_start hp (by omega) (by omega)
/-- a cell of the script, whatever it holds -/
theorem dm_cell {post : Int32 → Prop} {L : Nat} {xs : Nat → Int32} (hL : L ≤ 4) (i : Nat) (hi : i < 4) (h : ∀ r, post r) : wpL_cellAt post L xs () (nI i) := by
  refine ⟨fun _ => h _, fun hn => ⟨vp_in_nI (Nat.lt_of_not_le fun hle => hn (nI_le hle (by omega))) (by omega), h _⟩⟩
theorem i_vc (xs : Nat → Int32) (L : Nat) (hL : L ≤ 4) : wpL_law (fun r => r = 1) L xs := by
  intro adB
  refine dm_cell hL 0 (by omega) fun r1 => ?_
  refine dm_cell hL 1 (by omega) fun r2 => ?_
  refine dm_cell hL 2 (by omega) fun r3 => ?_
  refine dm_cell hL 3 (by omega) fun r4 => ?_
  exact ⟨14, 224, by omega, by omega, dm_lawOf r1 r2 r3 r4 fun _ => rfl⟩
end
