section
/-- the rest by 41 as it is printed -/
def tb_rm (x : Int32) : Int32 := x - x / 41 * 41
/-- the distance as line computes it, out of the two places -/
def tb_ab (u v : Int32) : Int32 := if 0 ≤ v - u then v - u else -(v - u)
/-- what line lays for the pair p, q (p the smaller one) -/
def tb_fl (x1 x2 p q : Int32) : Int32 := tb_ab (tb_rm (x1 + p * x2)) (tb_rm (x1 + q * x2))
/-- what sow lays for the pair p, q (p the smaller one) -/
def tb_fs (x1 x2 p q : Int32) : Int32 := tb_rm (((x1 + (13 * p)) + (17 * q)) + ((p * q) * x2))
/-- the prices while a filling is under way: nought on the diagonal, F at the pairs that are done -/
def tb_in (n i j : Nat) (F : Int32 → Int32 → Int32) (a : Nat → Int32) : Prop :=
  (∀ p, p < 7 → a (7 * p + p) = 0) ∧ ∀ p q, p < q → q < n → (p < i ∨ (p = i ∧ q < j)) → a (7 * p + q) = F (nI p) (nI q) ∧ a (7 * q + p) = F (nI p) (nI q)
/-- the prices when a filling is done -/
def tb_al (n : Nat) (F : Int32 → Int32 → Int32) (a : Nat → Int32) : Prop :=
  (∀ p, p < 7 → a (7 * p + p) = 0) ∧ ∀ p q, p < q → q < n → a (7 * p + q) = F (nI p) (nI q) ∧ a (7 * q + p) = F (nI p) (nI q)
/-- the prices of a new object -/
def tb_nw (a : Nat → Int32) : Prop := ∀ p q, p < 7 → q < 7 → a (7 * p + q) = if p = q then 0 else 10
/-- both are towns of m -/
def tb_gd (m x y : Int32) : Prop := ¬ x < 0 ∧ ¬ m ≤ x ∧ ¬ y < 0 ∧ ¬ m ≤ y
/-- an argument that line and sow take -/
def tb_ok (x : Int32) : Prop := ¬ x < 0 ∧ x ≤ 40
theorem tb_ix (i j : Nat) : (7 * nI i) + nI j = nI (7 * i + j) := by
  show nI 7 * nI i + nI j = nI (7 * i + j)
  rw [pk_mul, nI_add]
theorem tb_ic {i j : Nat} (hi : i < 7) (hj : j < 7) : ((7 * nI i) + nI j).toNatClampNeg = 7 * i + j := by
  rw [tb_ix, nI_clamp (by omega)]
theorem tb_put {n i j : Nat} {F : Int32 → Int32 → Int32} {a : Nat → Int32} {v : Int32} (hn : n ≤ 7) (hij : i < j) (hj : j < n) (hv : v = F (nI i) (nI j)) (h : tb_in n i j F a) :
    tb_in n i (j + 1) F (upd (upd a (7 * i + j) v) (7 * j + i) v) := by
  refine ⟨fun p hp => ?_, fun p q hpq hq hc => ?_⟩
  · rw [pk_un (by omega), pk_un (by omega)]
    exact h.1 p hp
  · by_cases e : p = i ∧ q = j
    · obtain ⟨rfl, rfl⟩ := e
      rw [pk_us, pk_un (by omega), pk_us]
      exact ⟨hv, hv⟩
    · rw [pk_un (by omega), pk_un (by omega), pk_un (by omega), pk_un (by omega)]
      exact h.2 p q hpq hq (by omega)
theorem tb_st {n i : Nat} {F : Int32 → Int32 → Int32} {a : Nat → Int32} (h : tb_in n i 0 F a) : tb_in n i (i + 1) F a :=
  ⟨h.1, fun p q hpq hq hc => h.2 p q hpq hq (by omega)⟩
theorem tb_nx {n i : Nat} {F : Int32 → Int32 → Int32} {a : Nat → Int32} (h : tb_in n i n F a) : tb_in n (i + 1) 0 F a :=
  ⟨h.1, fun p q hpq hq hc => h.2 p q hpq hq (by omega)⟩
theorem tb_i0 {n : Nat} {F : Int32 → Int32 → Int32} {a : Nat → Int32} (h : ∀ p, p < 7 → a (7 * p + p) = 0) : tb_in n 0 0 F a :=
  ⟨h, fun p q hpq hq hc => absurd hc (by omega)⟩
theorem tb_ie {n : Nat} {F : Int32 → Int32 → Int32} {a : Nat → Int32} (h : tb_in n n 0 F a) : tb_al n F a :=
  ⟨h.1, fun p q hpq hq => h.2 p q hpq hq (by omega)⟩
theorem tb_nd {a : Nat → Int32} (h : tb_nw a) : ∀ p, p < 7 → a (7 * p + p) = 0 := fun p hp => by
  rw [h p p hp hp, if_pos rfl]
theorem tb_okN {x : Int32} (h : tb_ok x) : ∃ s : Nat, s ≤ 40 ∧ x = nI s := nI_of2 (M := 40) (n := 40) (by decide) h.1 h.2
theorem tb_rN {a : Nat} (ha : a < 2 ^ 31) : tb_rm (nI a) = nI (a % 41) := pk_rem (d := 41) ha (by decide) (by decide)
/-- the place of town p on the line -/
theorem tb_lp {x1 x2 : Int32} (h1 : tb_ok x1) (h2 : tb_ok x2) {p : Nat} (hp : p < 7) : ∃ U : Nat, U < 41 ∧ tb_rm (x1 + nI p * x2) = nI U := by
  obtain ⟨s, hs, rfl⟩ := tb_okN h1
  obtain ⟨t, ht, rfl⟩ := tb_okN h2
  have hb : p * t ≤ 6 * 40 := Nat.mul_le_mul (by omega) ht
  refine ⟨(s + p * t) % 41, Nat.mod_lt _ (by decide), ?_⟩
  rw [pk_mul, nI_add]
  exact tb_rN (by omega)
theorem tb_abN {U V : Nat} (hU : U < 41) (hV : V < 41) : tb_ab (nI U) (nI V) = nI (if U ≤ V then V - U else U - V) := by
  unfold tb_ab
  by_cases h : U ≤ V
  · rw [if_pos h, pk_sub h, if_pos (nI_pos' (by omega))]
  · have hz : ¬ (0 : Int32) ≤ nI V - nI U := by
      have hl : nI V - nI U < 0 := pk_sneg (by omega) (by omega)
      rw [Int32.not_le]
      exact hl
    rw [if_neg h, if_neg hz, Int32.neg_sub, pk_sub (by omega)]
end
section
section
variable {r : Int32} {a a2 a3 a4 a5 a6 a7 a8 a9 a10 a11 : Nat → Int32}
theorem tb_sp {post : St2 → Prop} {m v : Int32} {i j : Nat} (hi : i < 7) (hj : j < 7) (H : post (m, r, upd (upd a (7 * i + j) v) (7 * j + i) v, a2, a3, a4, a5, a6, a7, a8, a9, a10, a11)) :
    wpX_setPrice post (m, r, a, a2, a3, a4, a5, a6, a7, a8, a9, a10, a11) (nI i) (nI j) v :=
  And.intro (pk_in (7 * i + j) 49 (by omega) (tb_ix i j)) (nm_r (by rw [tb_ic hi hj]) (And.intro (pk_in (7 * j + i) 49 (by omega) (tb_ix j i)) (nm_r (by rw [tb_ic hj hi]) H)))
theorem tb_po {post : Int32 → Prop} {n p q : Nat} (hn : n ≤ 7) (hp : p < n) (hq : q < n) (H : post (a (7 * p + q))) :
    wpX_priceOf post (nI n, r, a, a2, a3, a4, a5, a6, a7, a8, a9, a10, a11) (nI p) (nI q) := by
  unfold wpX_priceOf
  dsimp only
  refine br_f (nI_pos (by omega)) (br_f (nI_ge hp (by omega)) (br_f (by decide) (br_f (nI_pos (by omega)) (br_f (nI_ge hq (by omega)) (br_f (by decide) ⟨pk_in (7 * p + q) 49 (by omega) (tb_ix p q), ?_⟩)))))
  rw [tb_ic (by omega) (by omega)]
  exact H
theorem tb_pn {post : Int32 → Prop} {m x y : Int32} (h : ¬ tb_gd m x y) (H : post (-1)) :
    wpX_priceOf post (m, r, a, a2, a3, a4, a5, a6, a7, a8, a9, a10, a11) x y := by
  unfold wpX_priceOf
  dsimp only
  exact br_c (fun _ => br_t rfl H) (fun h1 => br_c (fun _ => br_t rfl H) (fun h2 => br_f (by decide) (br_c (fun _ => br_t rfl H) (fun h3 => br_c (fun _ => br_t rfl H) (fun h4 => absurd ⟨h1, h2, h3, h4⟩ h)))))
/-- line: the inner loop -/
theorem tb_l40 {post : Int32 → St2 → Prop} {J27 : Int32 → Int32 → Int32 → (Nat → Int32) → (Nat → Int32) → (Nat → Int32) → (Nat → Int32) → (Nat → Int32) → (Nat → Int32) → (Nat → Int32) → (Nat → Int32) → (Nat → Int32) → (Nat → Int32) → (Nat → Int32) → Prop} {x1 x2 : Int32} {n i : Nat} (hn : n ≤ 7) (hi : i < n) (h : tb_in n i 0 (tb_fl x1 x2) a)
    (H : ∀ b, tb_in n (i + 1) 0 (tb_fl x1 x2) b → J27 (nI (i + 1)) (nI n) r b a2 a3 a4 a5 a6 a7 a8 a9 a10 a11) :
    ∃ fu, wX_line_40 post J27 x1 x2 (nI i) fu (nI (i + 1)) (nI n) r a a2 a3 a4 a5 a6 a7 a8 a9 a10 a11 :=
  pk_loop (fun k j s => wX_line_40 post J27 x1 x2 (nI i) k (nI j) (nI n) r s a2 a3 a4 a5 a6 a7 a8 a9 a10 a11) (fun j s => i < j ∧ tb_in n i j (tb_fl x1 x2) s) n (i + 1) a (by omega) ⟨by omega, tb_st h⟩
    (fun k s h => pk_le n n (fun _ => nm_r (nI_1 i) (H s (tb_nx h.2))) (fun z => absurd z (by omega)))
    (fun k j s hj h hw => pk_le n j (fun z => absurd z (by omega)) (fun _ => ⟨by decide, by decide, fun x5 e5 => by
      have ev : tb_fl x1 x2 (nI i) (nI j) = if 0 ≤ x5 then x5 else -x5 := by rw [e5]; rfl
      refine br_c (fun g => ?_) (fun g => ?_)
      · rw [if_pos g] at ev
        unfold wX_line_86
        exact tb_sp (by omega) (by omega) (nm_r (nI_1 j) (hw _ ⟨by omega, tb_put hn h.1 hj ev.symm h.2⟩))
      · rw [if_neg g] at ev
        unfold wX_line_86
        exact tb_sp (by omega) (by omega) (nm_r (nI_1 j) (hw _ ⟨by omega, tb_put hn h.1 hj ev.symm h.2⟩))⟩))
theorem tb_l27 {post : Int32 → St2 → Prop} {x1 x2 : Int32} {n : Nat} (hn : n ≤ 7) (h : ∀ p, p < 7 → a (7 * p + p) = 0)
    (H : ∀ b, tb_al n (tb_fl x1 x2) b → post 0 (nI n, r, b, a2, a3, a4, a5, a6, a7, a8, a9, a10, a11)) :
    ∃ fu, wX_line_27 post x1 x2 fu 0 (nI n) r a a2 a3 a4 a5 a6 a7 a8 a9 a10 a11 :=
  pk_loop (fun k i s => wX_line_27 post x1 x2 k (nI i) (nI n) r s a2 a3 a4 a5 a6 a7 a8 a9 a10 a11) (fun i s => tb_in n i 0 (tb_fl x1 x2) s) n 0 a (by omega) (tb_i0 h)
    (fun k s h => pk_le n n (fun _ => H s (tb_ie h)) (fun z => absurd z (by omega)))
    (fun k i s hi h hw => pk_le n i (fun z => absurd z (by omega)) (fun _ => nm_r (nI_1 i) (tb_l40 hn hi h hw)))
theorem tb_line {post : Int32 → St2 → Prop} {x1 x2 : Int32} {n : Nat} (hn : n ≤ 7) (h1 : tb_ok x1) (h2 : tb_ok x2) (h : ∀ p, p < 7 → a (7 * p + p) = 0)
    (H : ∀ b, tb_al n (tb_fl x1 x2) b → post 0 (nI n, r, b, a2, a3, a4, a5, a6, a7, a8, a9, a10, a11)) :
    wpX_line post (nI n, r, a, a2, a3, a4, a5, a6, a7, a8, a9, a10, a11) x1 x2 := by
  unfold wpX_line
  dsimp only
  exact br_f h1.1 (br_t h1.2 (br_f h2.1 (br_t h2.2 (tb_l27 hn h H))))
theorem tb_lnN {post : Int32 → St2 → Prop} {m x1 x2 c : Int32} (hc : (¬ tb_ok x1 ∧ c = -1) ∨ (tb_ok x1 ∧ ¬ tb_ok x2 ∧ c = -2))
    (H : post c (m, r, a, a2, a3, a4, a5, a6, a7, a8, a9, a10, a11)) :
    wpX_line post (m, r, a, a2, a3, a4, a5, a6, a7, a8, a9, a10, a11) x1 x2 := by
  unfold wpX_line
  dsimp only
  rcases hc with ⟨h1, rfl⟩ | ⟨h1, h2, rfl⟩
  · exact br_c (fun _ => H) (fun g => br_c (fun g2 => absurd ⟨g, g2⟩ h1) (fun _ => H))
  · exact br_f h1.1 (br_t h1.2 (br_c (fun _ => H) (fun g => br_c (fun g2 => absurd ⟨g, g2⟩ h2) (fun _ => H))))
/-- sow: the inner loop -/
theorem tb_s40 {post : Int32 → St2 → Prop} {J27 : Int32 → Int32 → Int32 → (Nat → Int32) → (Nat → Int32) → (Nat → Int32) → (Nat → Int32) → (Nat → Int32) → (Nat → Int32) → (Nat → Int32) → (Nat → Int32) → (Nat → Int32) → (Nat → Int32) → (Nat → Int32) → Prop} {x1 x2 : Int32} {n i : Nat} (hn : n ≤ 7) (hi : i < n) (h : tb_in n i 0 (tb_fs x1 x2) a)
    (H : ∀ b, tb_in n (i + 1) 0 (tb_fs x1 x2) b → J27 (nI (i + 1)) (nI n) r b a2 a3 a4 a5 a6 a7 a8 a9 a10 a11) :
    ∃ fu, wX_sow_40 post J27 x1 x2 (nI i) fu (nI (i + 1)) (nI n) r a a2 a3 a4 a5 a6 a7 a8 a9 a10 a11 :=
  pk_loop (fun k j s => wX_sow_40 post J27 x1 x2 (nI i) k (nI j) (nI n) r s a2 a3 a4 a5 a6 a7 a8 a9 a10 a11) (fun j s => i < j ∧ tb_in n i j (tb_fs x1 x2) s) n (i + 1) a (by omega) ⟨by omega, tb_st h⟩
    (fun k s h => pk_le n n (fun _ => nm_r (nI_1 i) (H s (tb_nx h.2))) (fun z => absurd z (by omega)))
    (fun k j s hj h hw => pk_le n j (fun z => absurd z (by omega)) (fun _ => ⟨by decide, tb_sp (by omega) (by omega) (nm_r (nI_1 j) (hw _ ⟨by omega, tb_put hn h.1 hj rfl h.2⟩))⟩))
theorem tb_s27 {post : Int32 → St2 → Prop} {x1 x2 : Int32} {n : Nat} (hn : n ≤ 7) (h : ∀ p, p < 7 → a (7 * p + p) = 0)
    (H : ∀ b, tb_al n (tb_fs x1 x2) b → post 0 (nI n, r, b, a2, a3, a4, a5, a6, a7, a8, a9, a10, a11)) :
    ∃ fu, wX_sow_27 post x1 x2 fu 0 (nI n) r a a2 a3 a4 a5 a6 a7 a8 a9 a10 a11 :=
  pk_loop (fun k i s => wX_sow_27 post x1 x2 k (nI i) (nI n) r s a2 a3 a4 a5 a6 a7 a8 a9 a10 a11) (fun i s => tb_in n i 0 (tb_fs x1 x2) s) n 0 a (by omega) (tb_i0 h)
    (fun k s h => pk_le n n (fun _ => H s (tb_ie h)) (fun z => absurd z (by omega)))
    (fun k i s hi h hw => pk_le n i (fun z => absurd z (by omega)) (fun _ => nm_r (nI_1 i) (tb_s40 hn hi h hw)))
theorem tb_sow {post : Int32 → St2 → Prop} {x1 x2 : Int32} {n : Nat} (hn : n ≤ 7) (h1 : tb_ok x1) (h2 : tb_ok x2) (h : ∀ p, p < 7 → a (7 * p + p) = 0)
    (H : ∀ b, tb_al n (tb_fs x1 x2) b → post 0 (nI n, r, b, a2, a3, a4, a5, a6, a7, a8, a9, a10, a11)) :
    wpX_sow post (nI n, r, a, a2, a3, a4, a5, a6, a7, a8, a9, a10, a11) x1 x2 := by
  unfold wpX_sow
  dsimp only
  exact br_f h1.1 (br_t h1.2 (br_f h2.1 (br_t h2.2 (tb_s27 hn h H))))
theorem tb_swN {post : Int32 → St2 → Prop} {m x1 x2 c : Int32} (hc : (¬ tb_ok x1 ∧ c = -1) ∨ (tb_ok x1 ∧ ¬ tb_ok x2 ∧ c = -2))
    (H : post c (m, r, a, a2, a3, a4, a5, a6, a7, a8, a9, a10, a11)) :
    wpX_sow post (m, r, a, a2, a3, a4, a5, a6, a7, a8, a9, a10, a11) x1 x2 := by
  unfold wpX_sow
  dsimp only
  rcases hc with ⟨h1, rfl⟩ | ⟨h1, h2, rfl⟩
  · exact br_c (fun _ => H) (fun g => br_c (fun g2 => absurd ⟨g, g2⟩ h1) (fun _ => H))
  · exact br_f h1.1 (br_t h1.2 (br_c (fun _ => H) (fun g => br_c (fun g2 => absurd ⟨g, g2⟩ h2) (fun _ => H))))
/-- the constructor: the loop -/
theorem tb_i125 {post : St2 → Prop} {mc ms kc ks : Nat} {m : Int32} (H : ∀ b, tb_nw b → post (m, r, b, a2, a3, a4, a5, a6, a7, a8, a9, a10, a11)) :
    ∃ fu, wX_init_125 post mc ms kc ks m r fu 0 a a2 a3 a4 a5 a6 a7 a8 a9 a10 a11 :=
  pk_loop (fun k i s => wX_init_125 post mc ms kc ks m r k (nI i) s a2 a3 a4 a5 a6 a7 a8 a9 a10 a11) (fun i s => ∀ k, k < i → s k = if k / 7 = k % 7 then (0 : Int32) else 10) 49 0 a (by omega) (fun k hk => absurd hk (by omega))
    (fun k s h => pk_le 49 49 (fun _ => H s (fun p q hp hq => by
      rw [h (7 * p + q) (by omega), show (7 * p + q) / 7 = p by omega, show (7 * p + q) % 7 = q by omega])) (fun z => absurd z (by omega)))
    (fun k i s hi h hw => pk_le 49 i (fun z => absurd z (by omega)) (fun _ => ⟨by decide, by decide, pk_eq (i / 7) (i % 7)
      (fun e => ⟨pk_in i 49 hi, nm_r (by rw [nI_clamp (by omega)]) (nm_r (nI_1 i) (hw (upd s i 0) (fun j hj => by
        by_cases ej : j = i
        · rw [ej, pk_us, if_pos e]
        · rw [pk_un ej]
          exact h j (by omega))))⟩)
      (fun e => ⟨pk_in i 49 hi, nm_r (by rw [nI_clamp (by omega)]) (nm_r (nI_1 i) (hw (upd s i 10) (fun j hj => by
        by_cases ej : j = i
        · rw [ej, pk_us, if_neg e]
        · rw [pk_un ej]
          exact h j (by omega))))⟩)
      (pk_div (d := 7) (by omega) (by decide) (by decide)) (pk_rem (d := 7) (by omega) (by decide) (by decide))⟩))
end
/-- m is the number of towns that the constructor makes of x -/
def tb_cl (x m : Int32) : Prop := (2 ≤ x ∧ x ≤ 7 ∧ m = x) ∨ (2 ≤ x ∧ ¬ x ≤ 7 ∧ m = 7) ∨ (¬ 2 ≤ x ∧ m = 2)
theorem tb_clN {x m : Int32} (h : tb_cl x m) : ∃ n : Nat, n ≤ 7 ∧ m = nI n := by
  rcases h with ⟨h1, h2, rfl⟩ | ⟨_, _, rfl⟩ | ⟨_, rfl⟩
  · refine nI_of2 (M := 7) (n := 7) (by decide) ?_ h2
    intro h
    have e := Int32.lt_of_le_of_lt h1 h
    exact absurd e (by decide)
  · exact ⟨7, by omega, rfl⟩
  · exact ⟨2, by omega, rfl⟩
theorem tb_init {post : St2 → Prop} {x m : Int32} (hm : tb_cl x m)
    (H : ∀ b, tb_nw b → post (m, 0, b, (fun _ => 0), (fun _ => 0), (fun _ => 0), (fun _ => 0), (fun _ => 0), (fun _ => 0), (fun _ => 0), (fun _ => 0), (fun _ => 0), (fun _ => 0))) :
    wpX_init post 11 1985 (0, 0) x := by
  unfold wpX_init
  dsimp only
  refine ⟨by omega, by omega, by omega, by omega, by omega, by omega, by omega, by omega, by omega, by omega, by omega, by omega, by omega, by omega, by omega, by omega, by omega, by omega, by omega, by omega, by omega, by omega, ?_⟩
  rcases hm with ⟨h1, h2, rfl⟩ | ⟨h1, h2, rfl⟩ | ⟨h1, rfl⟩
  · refine br_t h1 ?_
    unfold wX_init_105
    exact br_t h2 (tb_i125 H)
  · refine br_t h1 ?_
    unfold wX_init_105
    exact br_f h2 (tb_i125 H)
  · refine br_f h1 ?_
    unfold wX_init_105
    exact br_t (by decide) (tb_i125 H)
end
section
/-- priceOf answers d -/
def tb_an (u : St2) (x y d : Int32) : Prop := ∀ post : Int32 → Prop, post d → wpX_priceOf post u x y
section
variable {r : Int32} {a b a2 a3 a4 a5 a6 a7 a8 a9 a10 a11 : Nat → Int32}
theorem tb_anN {m x y : Int32} (h : ¬ tb_gd m x y) : tb_an (m, r, a, a2, a3, a4, a5, a6, a7, a8, a9, a10, a11) x y (-1) ∧ tb_an (m, r, a, a2, a3, a4, a5, a6, a7, a8, a9, a10, a11) y x (-1) :=
  ⟨fun _ H => tb_pn h H, fun _ H => tb_pn (fun g => h ⟨g.2.2.1, g.2.2.2, g.1, g.2.1⟩) H⟩
theorem tb_anG {n p q : Nat} {d : Int32} (hn : n ≤ 7) (hp : p < n) (hq : q < n) (h1 : a (7 * p + q) = d) (h2 : a (7 * q + p) = d) :
    tb_an (nI n, r, a, a2, a3, a4, a5, a6, a7, a8, a9, a10, a11) (nI p) (nI q) d ∧ tb_an (nI n, r, a, a2, a3, a4, a5, a6, a7, a8, a9, a10, a11) (nI q) (nI p) d :=
  ⟨fun _ H => tb_po hn hp hq (h1.symm ▸ H), fun _ H => tb_po hn hq hp (h2.symm ▸ H)⟩
variable {post : Int32 → St0 → Prop} {mc ms kc ks : Nat} {m x1 x2 x3 x4 x6 x7 x8 d : Int32}
theorem tb_325 (hp : post 1 ()) (h : tb_an (m, r, a, a2, a3, a4, a5, a6, a7, a8, a9, a10, a11) x3 x4 d ∧ tb_an (m, r, a, a2, a3, a4, a5, a6, a7, a8, a9, a10, a11) x4 x3 d) :
    wL_lawOf_325 post mc ms x3 x4 d kc ks m r a a2 a3 a4 a5 a6 a7 a8 a9 a10 a11 := by
  unfold wL_lawOf_325
  refine h.1 _ (h.2 _ (br_t rfl (br_t rfl hp)))
/-- nothing new is due -/
theorem tb_281 (x15 z0 : Int32) (hc : x6 = 0 ∨ x7 = 0 ∨ x3 = x4) (H : wL_lawOf_325 post mc ms x3 x4 d kc ks m r a a2 a3 a4 a5 a6 a7 a8 a9 a10 a11) :
    wL_lawOf_281 post mc ms x1 x2 x3 x4 x6 x7 d x15 z0 kc ks m r a a2 a3 a4 a5 a6 a7 a8 a9 a10 a11 := by
  unfold wL_lawOf_281
  refine br_c (fun _ => H) (fun g1 => br_c (fun _ => H) (fun g2 => br_c (fun _ => H) (fun g3 => ?_)))
  rcases hc with e | e | e
  · exact absurd e g1
  · exact absurd e g2
  · exact absurd e g3
theorem tb_267 (z0 : Int32) (hc : x6 = 0 ∨ x7 = 0 ∨ x3 = x4) (H : wL_lawOf_325 post mc ms x3 x4 d kc ks m r a a2 a3 a4 a5 a6 a7 a8 a9 a10 a11) :
    wL_lawOf_267 post mc ms x1 x2 x3 x4 x6 x7 d z0 kc ks m r a a2 a3 a4 a5 a6 a7 a8 a9 a10 a11 := by
  unfold wL_lawOf_267
  exact br_c (fun _ => tb_281 _ _ hc H) (fun _ => tb_281 _ _ hc H)
/-- refused: the prices stay -/
theorem tb_201R (hp : post 1 ()) (hc : (¬ tb_ok x1 ∧ x8 = -1) ∨ (tb_ok x1 ∧ ¬ tb_ok x2 ∧ x8 = -2)) (h7 : x7 = 0)
    (h : tb_an (m, r, a, a2, a3, a4, a5, a6, a7, a8, a9, a10, a11) x3 x4 d ∧ tb_an (m, r, a, a2, a3, a4, a5, a6, a7, a8, a9, a10, a11) x4 x3 d) :
    wL_lawOf_201 post mc ms x1 x2 x3 x4 x6 x7 x8 d kc ks m r a a2 a3 a4 a5 a6 a7 a8 a9 a10 a11 := by
  unfold wL_lawOf_201
  exact h.1 _ (h.2 _ (br_t rfl (br_t rfl (tb_swN hc (br_t rfl (br_c (fun _ => tb_267 _ (Or.inr (Or.inl h7)) (tb_325 hp h)) (fun _ => tb_267 _ (Or.inr (Or.inl h7)) (tb_325 hp h))))))))
/-- done, and not both are towns -/
theorem tb_201N {n : Nat} (hn : n ≤ 7) (hp : post 1 ()) (h1 : tb_ok x1) (h2 : tb_ok x2) (hg : ¬ tb_gd (nI n) x3 x4) (h6 : x6 = 0) (ha : ∀ p, p < 7 → a (7 * p + p) = 0) :
    wL_lawOf_201 post mc ms x1 x2 x3 x4 x6 x7 0 (-1) kc ks (nI n) r a a2 a3 a4 a5 a6 a7 a8 a9 a10 a11 := by
  unfold wL_lawOf_201
  have h := tb_anN (r := r) (a := a) (a2 := a2) (a3 := a3) (a4 := a4) (a5 := a5) (a6 := a6) (a7 := a7) (a8 := a8) (a9 := a9) (a10 := a10) (a11 := a11) hg
  exact h.1 _ (h.2 _ (br_t rfl (br_t rfl (tb_sow hn h1 h2 ha (fun b hb => br_t rfl (br_c (fun _ => tb_267 _ (Or.inl h6) (tb_325 hp (tb_anN hg))) (fun _ => tb_267 _ (Or.inl h6) (tb_325 hp (tb_anN hg)))))))))
/-- done, both are towns: what is due after sow -/
theorem tb_267G {n p q : Nat} (hn : n ≤ 7) (hp : post 1 ()) (hq1 : p < n) (hq2 : q < n) (h6 : ¬ x6 = 0) (h7 : ¬ x7 = 0) (hd : p = q → d = 0) (hb : tb_al n (tb_fs x1 x2) b) :
    (nI q ≤ nI p → wL_lawOf_267 post mc ms x1 x2 (nI p) (nI q) x6 x7 d (nI q) kc ks (nI n) r b a2 a3 a4 a5 a6 a7 a8 a9 a10 a11) ∧ (¬ nI q ≤ nI p → wL_lawOf_267 post mc ms x1 x2 (nI p) (nI q) x6 x7 d (nI p) kc ks (nI n) r b a2 a3 a4 a5 a6 a7 a8 a9 a10 a11) := by
  by_cases e : p = q
  · subst e
    have h := tb_anG (r := r) (a := b) (a2 := a2) (a3 := a3) (a4 := a4) (a5 := a5) (a6 := a6) (a7 := a7) (a8 := a8) (a9 := a9) (a10 := a10) (a11 := a11) (d := d) hn hq1 hq1 (by rw [hd rfl]; exact hb.1 p (by omega)) (by rw [hd rfl]; exact hb.1 p (by omega))
    exact br_c (fun _ => tb_267 _ (Or.inr (Or.inr rfl)) (tb_325 hp h)) (fun _ => tb_267 _ (Or.inr (Or.inr rfl)) (tb_325 hp h))
  · have ne : ¬ nI p = nI q := fun z => e ((nI_eq (by omega) (by omega)).mp z)
    refine pk_le q p (fun z => ?_) (fun z => ?_)
    · unfold wL_lawOf_267
      refine br_t (nI_le z (by omega)) ?_
      unfold wL_lawOf_281
      have hz := hb.2 q p (by omega) (by omega)
      exact br_f h6 (br_f h7 (br_f ne ⟨by decide, nm_e (tb_325 hp (tb_anG hn hq1 hq2 hz.2 hz.1))⟩))
    · unfold wL_lawOf_267
      refine br_f (nI_ge z (by omega)) ?_
      unfold wL_lawOf_281
      have hz := hb.2 p q (by omega) (by omega)
      exact br_f h6 (br_f h7 (br_f ne ⟨by decide, nm_e (tb_325 hp (tb_anG hn hq1 hq2 hz.1 hz.2))⟩))
theorem tb_201G {n p q : Nat} (hn : n ≤ 7) (hp : post 1 ()) (h1 : tb_ok x1) (h2 : tb_ok x2) (hq1 : p < n) (hq2 : q < n) (h6 : ¬ x6 = 0) (h7 : ¬ x7 = 0) (hd : p = q → d = 0) (ha : ∀ p, p < 7 → a (7 * p + p) = 0)
    (e1 : a (7 * p + q) = d) (e2 : a (7 * q + p) = d) :
    wL_lawOf_201 post mc ms x1 x2 (nI p) (nI q) x6 x7 0 d kc ks (nI n) r a a2 a3 a4 a5 a6 a7 a8 a9 a10 a11 := by
  unfold wL_lawOf_201
  have h := tb_anG (r := r) (a2 := a2) (a3 := a3) (a4 := a4) (a5 := a5) (a6 := a6) (a7 := a7) (a8 := a8) (a9 := a9) (a10 := a10) (a11 := a11) hn hq1 hq2 e1 e2
  exact h.1 _ (h.2 _ (br_t rfl (br_t rfl (tb_sow hn h1 h2 ha (fun b hb => br_t rfl (tb_267G hn hp hq1 hq2 h6 h7 hd hb))))))
/-- done, both are towns: what is due after line -/
theorem tb_146G {n p q : Nat} (z0 : Int32) (hn : n ≤ 7) (hp : post 1 ()) (h1 : tb_ok x1) (h2 : tb_ok x2) (hq1 : p < n) (hq2 : q < n) (h6 : ¬ x6 = 0) (h7 : ¬ x7 = 0) (ha : tb_al n (tb_fl x1 x2) a) :
    wL_lawOf_146 post mc ms x1 x2 (nI p) (nI q) x6 x7 0 z0 kc ks (nI n) r a a2 a3 a4 a5 a6 a7 a8 a9 a10 a11 := by
  obtain ⟨U, hU, eU⟩ := tb_lp h1 h2 (p := p) (by omega)
  obtain ⟨V, hV, eV⟩ := tb_lp h1 h2 (p := q) (by omega)
  have E : ∀ D : Nat, D = (if U ≤ V then V - U else U - V) → wL_lawOf_199 post mc ms x1 x2 (nI p) (nI q) x6 x7 0 (nI D) kc ks (nI n) r a a2 a3 a4 a5 a6 a7 a8 a9 a10 a11 := by
    intro D hD
    unfold wL_lawOf_199
    by_cases e : p = q
    · subst e
      have eUV : nI U = nI V := by rw [← eU, ← eV]
      have eN : U = V := (nI_eq (by omega) (by omega)).mp eUV
      subst eN
      have e0 : D = 0 := by rw [hD, if_pos (Nat.le_refl U)]; omega
      subst e0
      exact tb_201G hn hp h1 h2 hq1 hq2 h6 h7 (fun _ => rfl) ha.1 (ha.1 p (by omega)) (ha.1 p (by omega))
    · rcases Nat.lt_or_ge p q with g | g
      · have f : tb_fl x1 x2 (nI p) (nI q) = nI D := by unfold tb_fl; rw [eU, eV, tb_abN hU hV, ← hD]
        have hz := ha.2 p q g hq2
        rw [f] at hz
        exact tb_201G hn hp h1 h2 hq1 hq2 h6 h7 (fun z => absurd z e) ha.1 hz.1 hz.2
      · have hD' : D = (if V ≤ U then U - V else V - U) := by rw [hD]; split <;> split <;> omega
        have f : tb_fl x1 x2 (nI q) (nI p) = nI D := by unfold tb_fl; rw [eU, eV, tb_abN hV hU, ← hD']
        have hz := ha.2 q p (by omega) hq1
        rw [f] at hz
        exact tb_201G hn hp h1 h2 hq1 hq2 h6 h7 (fun z => absurd z e) ha.1 hz.2 hz.1
  unfold wL_lawOf_146
  refine br_f h6 (br_f h7 ⟨by decide, nm_r eU ⟨by decide, nm_r eV ?_⟩⟩)
  refine pk_le U V (fun z => ?_) (fun z => ?_)
  · rw [pk_sub z]
    exact E _ (by rw [if_pos z])
  · rw [pk_sub (by omega)]
    exact E _ (by rw [if_neg (by omega)])
theorem tb_146R (hp : post 1 ()) (hc : (¬ tb_ok x1 ∧ x8 = -1) ∨ (tb_ok x1 ∧ ¬ tb_ok x2 ∧ x8 = -2)) (h7 : x7 = 0)
    (h : tb_an (m, r, a, a2, a3, a4, a5, a6, a7, a8, a9, a10, a11) x3 x4 d ∧ tb_an (m, r, a, a2, a3, a4, a5, a6, a7, a8, a9, a10, a11) x4 x3 d) :
    wL_lawOf_146 post mc ms x1 x2 x3 x4 x6 x7 x8 d kc ks m r a a2 a3 a4 a5 a6 a7 a8 a9 a10 a11 := by
  unfold wL_lawOf_146
  exact br_c (fun _ => tb_201R hp hc h7 h) (fun _ => br_t h7 (tb_201R hp hc h7 h))
theorem tb_146N {n : Nat} (hn : n ≤ 7) (hp : post 1 ()) (h1 : tb_ok x1) (h2 : tb_ok x2) (hg : ¬ tb_gd (nI n) x3 x4) (h6 : x6 = 0) (ha : ∀ p, p < 7 → a (7 * p + p) = 0) :
    wL_lawOf_146 post mc ms x1 x2 x3 x4 x6 x7 0 (-1) kc ks (nI n) r a a2 a3 a4 a5 a6 a7 a8 a9 a10 a11 := by
  unfold wL_lawOf_146
  exact br_t h6 (tb_201N hn hp h1 h2 hg h6 ha)
end
/-- both are towns: their numbers -/
theorem tb_gdN {n : Nat} {x y : Int32} (hn : n ≤ 7) (h : tb_gd (nI n) x y) : ∃ p q : Nat, p < n ∧ q < n ∧ x = nI p ∧ y = nI q := by
  obtain ⟨h1, h2, h3, h4⟩ := h
  rcases pk_ix x (n := n) (by omega) with z | z | ⟨p, hp, ep⟩
  · exact absurd z h1
  · exact absurd z h2
  · rcases pk_ix y (n := n) (by omega) with z | z | ⟨q, hq, eq⟩
    · exact absurd z h3
    · exact absurd z h4
    · exact ⟨p, q, hp, hq, ep, eq⟩
section
variable {post : Int32 → St0 → Prop} {m x0 x1 x2 x3 x4 x6 x7 x8 : Int32}
theorem tb_95 (hp : post 1 ()) (hm : tb_cl x0 m) (hg : (x6 = 0 ∧ ¬ tb_gd m x3 x4) ∨ (x6 = 1 ∧ tb_gd m x3 x4))
    (hd : (x7 = 0 ∧ ((¬ tb_ok x1 ∧ x8 = -1) ∨ (tb_ok x1 ∧ ¬ tb_ok x2 ∧ x8 = -2))) ∨ (x7 = 1 ∧ tb_ok x1 ∧ tb_ok x2 ∧ x8 = 0)) :
    wL_lawOf_95 post 12 1998 x0 x1 x2 x3 x4 x6 x7 x8 0 0 := by
  unfold wL_lawOf_95
  obtain ⟨n, hn, en⟩ := tb_clN hm
  refine ⟨by omega, by omega, 11, 1985, by omega, by omega, tb_init hm (fun b hb => ?_)⟩
  rcases hd with ⟨h7, hc⟩ | ⟨h7, h1, h2, h8⟩
  · refine tb_lnN hc (br_t rfl ?_)
    rcases hg with ⟨h6, hg⟩ | ⟨h6, hg⟩
    · exact br_t h6 (tb_146R hp hc h7 (tb_anN hg))
    · refine br_f (by rw [h6]; decide) ?_
      subst en
      obtain ⟨p, q, hp1, hq1, rfl, rfl⟩ := tb_gdN hn hg
      refine pk_eq p q (fun e => ?_) (fun e => ?_)
      · exact tb_146R hp hc h7 (tb_anG hn hp1 hq1 (by rw [hb p q (by omega) (by omega), if_pos e]) (by rw [hb q p (by omega) (by omega), if_pos e.symm]))
      · exact tb_146R hp hc h7 (tb_anG hn hp1 hq1 (by rw [hb p q (by omega) (by omega), if_neg e]) (by rw [hb q p (by omega) (by omega), if_neg (fun z => e z.symm)]))
  · subst en h8
    refine tb_line hn h1 h2 (tb_nd hb) (fun c hc => br_t rfl ?_)
    rcases hg with ⟨h6, hg⟩ | ⟨h6, hg⟩
    · exact br_t h6 (tb_146N hn hp h1 h2 hg h6 hc.1)
    · have h6' : ¬ x6 = 0 := by rw [h6]; decide
      have h7' : ¬ x7 = 0 := by rw [h7]; decide
      obtain ⟨p, q, hp1, hq1, rfl, rfl⟩ := tb_gdN hn hg
      exact br_f h6' (br_c (fun _ => tb_146G _ hn hp h1 h2 hp1 hq1 h6' h7' hc) (fun _ => tb_146G _ hn hp h1 h2 hp1 hq1 h6' h7' hc))
theorem tb_isin {ps : Int32 → Prop} {x : Int32} (h1 : tb_ok x → ps 1) (h0 : ¬ tb_ok x → ps 0) : wpL_in ps () x := by
  unfold wpL_in
  exact br_c (fun g => h0 (fun z => z.1 g)) (fun g => br_c (fun g2 => h0 (fun z => (Int32.not_lt.mpr z.2) g2)) (fun g2 => h1 ⟨g, Int32.not_lt.mp g2⟩))
theorem tb_50 (hp : post 1 ()) (hm : tb_cl x0 m) (hg : (x6 = 0 ∧ ¬ tb_gd m x3 x4) ∨ (x6 = 1 ∧ tb_gd m x3 x4)) :
    wL_lawOf_50 post 12 1998 x0 x1 x2 x3 x4 x6 0 0 := by
  unfold wL_lawOf_50
  refine tb_isin (fun h1 => br_f (by decide) (tb_isin (fun h2 => br_f (by decide) ?_) (fun h2 => br_t rfl ?_))) (fun h1 => br_t rfl ?_)
  · unfold wL_lawOf_71
    exact tb_isin (fun _ => br_f (by decide) (br_f (by decide) (tb_95 hp hm hg (Or.inr ⟨rfl, h1, h2, rfl⟩)))) (fun z => absurd h1 z)
  · unfold wL_lawOf_70 wL_lawOf_71
    exact tb_isin (fun _ => br_f (by decide) (br_t rfl (tb_95 hp hm hg (Or.inl ⟨rfl, Or.inr ⟨h1, h2, rfl⟩⟩)))) (fun z => absurd h1 z)
  · unfold wL_lawOf_70 wL_lawOf_71
    exact tb_isin (fun z => absurd z h1) (fun _ => br_t rfl (tb_95 hp hm hg (Or.inl ⟨rfl, Or.inl ⟨h1, rfl⟩⟩)))
theorem tb_21 (hp : post 1 ()) (hm : tb_cl x0 m) : wL_lawOf_21 post 12 1998 x0 x1 x2 x3 x4 m 0 0 := by
  unfold wL_lawOf_21 wL_lawOf_49
  exact br_c (fun g => tb_50 hp hm (Or.inl ⟨rfl, fun z => z.1 g⟩)) (fun g1 => br_c (fun g => tb_50 hp hm (Or.inl ⟨rfl, fun z => z.2.1 g⟩)) (fun g2 => br_c (fun g => tb_50 hp hm (Or.inl ⟨rfl, fun z => z.2.2.1 g⟩)) (fun g3 => br_c (fun g => tb_50 hp hm (Or.inl ⟨rfl, fun z => z.2.2.2 g⟩)) (fun g4 => tb_50 hp hm (Or.inr ⟨rfl, g1, g2, g3, g4⟩)))))
theorem tb_law (hp : post 1 ()) : wpL_lawOf post 12 1998 () x0 x1 x2 x3 x4 := by
  unfold wpL_lawOf
  exact br_c (fun g1 => br_c (fun g2 => tb_21 hp (Or.inl ⟨g1, g2, rfl⟩)) (fun g2 => tb_21 hp (Or.inr (Or.inl ⟨g1, g2, rfl⟩)))) (fun g1 => tb_21 hp (Or.inr (Or.inr ⟨g1, rfl⟩)))
end
end
section
theorem tb_cell {ps : Int32 → Prop} {L : Nat} {xs : Nat → Int32} (hL : L ≤ 5) (k : Nat) (hk : k < 5) {x : Int32} (hx : x = nI k) (H : ∀ v, ps v) : wpL_cellAt ps L xs () x := by
  unfold wpL_cellAt
  exact pk_le L k (fun _ => H _) (fun z => ⟨pk_in k L z hx, H _⟩) rfl hx
theorem i_vc (xs : Nat → Int32) (L : Nat) (hL : L ≤ 5) : wpL_law (fun r => r = 1) L xs := by
  unfold wpL_law
  exact tb_cell hL 0 (by omega) rfl (fun _ => tb_cell hL 1 (by omega) rfl (fun _ => tb_cell hL 2 (by omega) rfl (fun _ => tb_cell hL 3 (by omega) rfl (fun _ => tb_cell hL 4 (by omega) rfl (fun _ => ⟨12, 1998, by omega, by omega, tb_law rfl⟩)))))
end
