section
/-- how many of the first k points lie in the word x -/
def pb_n (x : Int32) : Nat → Int32
  | 0 => 0
  | k + 1 => pb_n x k + ((x >>> (nI k &&& 31)) &&& 1)
/-- the word x without the point k -/
def pb_sd (x : Int32) (k : Nat) : Int32 := x &&& (((1 : Int32) <<< (nI k &&& 31)) ^^^ (-1))
theorem pb_n1 : ∀ p, p < 6 → pb_n (nI (2 ^ p)) 6 = 1 := by decide +kernel
theorem pb_n2 : ∀ p, p < 6 → ∀ q, q < 6 → p ≠ q → pb_n (nI (2 ^ p + 2 ^ q)) 6 = 2 := by decide +kernel
theorem pb_s1 : ∀ p, p < 6 → ∀ k, k < 6 → pb_sd (nI (2 ^ p)) k = nI (2 ^ p) ∨ pb_sd (nI (2 ^ p)) k = 0 := by decide +kernel
theorem pb_s2a : ∀ p, p < 6 → ∀ q, q < 6 → p ≠ q → pb_sd (nI (2 ^ p + 2 ^ q)) p = nI (2 ^ q) := by decide +kernel
theorem pb_s2b : ∀ p, p < 6 → ∀ q, q < 6 → p ≠ q → pb_sd (nI (2 ^ p + 2 ^ q)) q = nI (2 ^ p) := by decide +kernel
theorem pb_s2d : ∀ p, p < 6 → ∀ q, q < 6 → ∀ k, k < 6 → p ≠ q ∧ k ≠ p ∧ k ≠ q → pb_sd (nI (2 ^ p + 2 ^ q)) k = nI (2 ^ p + 2 ^ q) := by decide +kernel
theorem pb_s2c (p : Nat) (hp : p < 6) (q : Nat) (hq : q < 6) (hn : p ≠ q) (k : Nat) (hk : k < 6) (h1 : k ≠ p) (h2 : k ≠ q) : pb_sd (nI (2 ^ p + 2 ^ q)) k = nI (2 ^ p + 2 ^ q) := pb_s2d p hp q hq k hk ⟨hn, h1, h2⟩
theorem pb_sh : ∀ p, p < 6 → (1 : Int32) <<< (nI p &&& 31) = nI (2 ^ p) := by decide +kernel
theorem pb_or : ∀ p, p < 6 → ∀ q, q < 6 → p ≠ q → nI (2 ^ p) ||| nI (2 ^ q) = nI (2 ^ p + 2 ^ q) := by decide +kernel
theorem pb_pw : ∀ p, p < 6 → 1 ≤ 2 ^ p ∧ 2 ^ p < 64 := by decide +kernel
theorem pb_pw2 : ∀ p, p < 6 → ∀ q, q < 6 → p ≠ q → 2 ^ p ≠ 2 ^ q ∧ 2 ^ p + 2 ^ q < 64 := by decide +kernel
theorem pb_pw3 : ∀ p, p < 6 → ∀ q, q < 6 → p ≠ q → ∀ r, r < 6 → 2 ^ r ≠ 2 ^ p + 2 ^ q := by decide +kernel
theorem pb_c4 : ∀ i, i < 4 → ((4 : Int32) >>> (nI i &&& 31)) &&& 1 = if i = 2 then 1 else 0 := by decide +kernel
theorem pb_c3 : ∀ i, i < 4 → ((3 : Int32) >>> (nI i &&& 31)) &&& 1 = if i < 2 then 1 else 0 := by decide +kernel
theorem pb_low3 : ∀ i, i < 26 → 2 ≤ i → ((3 : Int32) >>> (nI i &&& 31)) &&& 1 = 0 := by decide +kernel
theorem pb_fill {s : Nat → Int32} {i : Nat} {x : Int32} (h : ∀ j, j < i → s j = x) : ∀ j, j < i + 1 → upd s i x j = x := by
  intro j hj
  by_cases e : j = i
  · rw [e, pk_us]
  · rw [pk_un e]
    exact h j (by omega)
/-- the three numbers of a script: three points, the second not the first -/
theorem pb_m6 (x : Int32) : ∃ p : Nat, p < 6 ∧ (x &&& 7) - (x &&& 7) / 6 * 6 = nI p := by
  obtain ⟨j, hj, e⟩ := pk_andE x (m := 7) 3 (by decide)
  rw [e]
  exact ⟨j % 6, Nat.mod_lt _ (by decide), pk_rem (d := 6) (by omega) (by decide) (by decide)⟩
theorem pb_m5 (y : Int32) : ∃ b : Nat, b < 5 ∧ (y &&& 7) - (y &&& 7) / 5 * 5 = nI b := by
  obtain ⟨j, hj, e⟩ := pk_andE y (m := 7) 3 (by decide)
  rw [e]
  exact ⟨j % 5, Nat.mod_lt _ (by decide), pk_rem (d := 5) (by omega) (by decide) (by decide)⟩
theorem pb_q {p : Nat} (hp : p < 6) (y : Int32) : ∃ q : Nat, q < 6 ∧ p ≠ q ∧ ((nI p + 1) + ((y &&& 7) - (y &&& 7) / 5 * 5)) - ((nI p + 1) + ((y &&& 7) - (y &&& 7) / 5 * 5)) / 6 * 6 = nI q := by
  obtain ⟨b, hb, e⟩ := pb_m5 y
  rw [e, nI_1, nI_add]
  exact ⟨(p + 1 + b) % 6, Nat.mod_lt _ (by decide), by omega, pk_rem (d := 6) (by omega) (by decide) (by decide)⟩
end
section
theorem pb_cell {post : Int32 → Prop} {L : Nat} {xs : Nat → Int32} (k : Nat) (hL : L ≤ 5) (hk : k < 5) (H : ∀ r, post r) : wpL_cellAt post L xs () (nI k) :=
  pk_le L k (fun _ => H 0) (fun z => ⟨vp_in_nI z (by omega), H _⟩)
theorem pb_init {post : St2 → Prop} {mc ms : Nat} (h5 : 5 ≤ mc) (h6 : 168 ≤ ms) (H : ∀ a, (∀ j, j < 64 → a j = -2) → post (0, 0, (fun _ => 0), a, (fun _ => 0), (fun _ => 0), (fun _ => 0))) : wpX_init post mc ms (0, 0) :=
  ⟨by omega, by omega, by omega, by omega, by omega, by omega, by omega, by omega, by omega, by omega,
    pk_loop (fun n i s => wX_init_46 post mc ms 5 168 0 0 n (nI i) (fun _ => 0) s (fun _ => 0) (fun _ => 0) (fun _ => 0)) (fun i s => ∀ j, j < i → s j = -2) 64 0 (fun _ => 0) (by omega) (fun j hj => absurd hj (by omega))
      (fun n s h => pk_le 64 64 (fun _ => H s h) (fun z => absurd z (by omega)))
      (fun n i s hi h hw => pk_le 64 i (fun z => absurd z (by omega)) (fun _ => ⟨pk_in i 64 hi, nm_r (e' := upd s i (-2)) (by rw [nI_clamp (by omega)]) (nm_r (nI_1 i) (hw _ (pb_fill h)))⟩))⟩
theorem pb_points {post : Int32 → Prop} {x : Int32} (H : post (pb_n x 6)) : wpX_points post () x :=
  pk_loop (fun n i s => wX_points_4 post x n s (nI i)) (fun i s => s = pb_n x i) 6 0 (0 : Int32) (by omega) rfl
    (fun n s h => pk_le 6 6 (fun _ => (by rw [h]; exact H)) (fun z => absurd z (by omega)))
    (fun n i s hi h hw => pk_le 6 i (fun z => absurd z (by omega)) (fun _ => nm_e (nm_r (nI_1 i) (hw _ (by rw [h]; rfl)))))
theorem pb_isPiece {post : Int32 → Prop} {m : Nat} (h1 : 1 ≤ m) (h2 : m < 64) (h3 : ¬ 4 < pb_n (nI m) 6) (H : post 1) : wpX_isPiece post () (nI m) :=
  pk_lt m 1 (fun z => absurd z (by omega)) (fun _ => pk_lt 63 m (fun z => absurd z (by omega)) (fun _ => pb_points (br_f h3 H)))
theorem pb_hasSides {post : Int32 → Prop} {x c s : Int32} {a1 a2 a3 a4 a5 : Nat → Int32} (h : ∀ k, k < 6 → pb_sd x k = x ∨ pb_sd x k = 0 ∨ (vp_in (pb_sd x k) 64 ∧ 0 ≤ a2 (pb_sd x k).toNatClampNeg)) (H : post 1) : wpX_hasSides post (c, s, a1, a2, a3, a4, a5) x := by
  refine pk_loop (σ := Unit) (fun n i _ => wX_hasSides_2 post x c s a1 a2 a3 a4 a5 n (nI i)) (fun _ _ => True) 6 0 () (by omega) trivial
    (fun n _ _ => pk_le 6 6 (fun _ => H) (fun z => absurd z (by omega)))
    (fun n i _ hi _ hw => pk_le 6 i (fun z => absurd z (by omega)) (fun _ => nm_r (e' := pb_sd x i) rfl ?_))
  refine br_c (fun _ => nm_r (nI_1 i) (hw () trivial)) (fun e1 => br_c (fun _ => nm_r (nI_1 i) (hw () trivial)) (fun e2 => ?_))
  rcases h i hi with g | g | ⟨g1, g2⟩
  · exact absurd g e1
  · exact absurd g e2
  · exact ⟨g1, br_t g2 (nm_r (nI_1 i) (hw () trivial))⟩
/-- a piece that isn't there and has its sides -/
theorem pb_add {post : Int32 → St2 → Prop} {m c : Nat} {s : Int32} {a1 a2 a3 a4 a5 : Nat → Int32} (h1 : 1 ≤ m) (h2 : m < 64) (h3 : ¬ 4 < pb_n (nI m) 6) (hp : a2 m < 0)
    (hs : ∀ k, k < 6 → pb_sd (nI m) k = nI m ∨ pb_sd (nI m) k = 0 ∨ (vp_in (pb_sd (nI m) k) 64 ∧ 0 ≤ a2 (pb_sd (nI m) k).toNatClampNeg)) (hc : c < 26)
    (H : post (nI c) (nI (c + 1), s, upd a1 c (nI m), upd a2 m (nI c), a3, a4, a5)) : wpX_add post (nI c, s, a1, a2, a3, a4, a5) (nI m) := by
  unfold wpX_add
  dsimp only
  refine pb_isPiece h1 h2 h3 (br_f (by decide) ⟨vp_in_nI h2 (by decide), br_t (by rw [nI_clamp (by omega)]; exact hp) (pb_hasSides hs (br_f (by decide) (pk_eq c 26 (fun z => absurd z (by omega)) (fun _ => ?_))))⟩)
  refine ⟨vp_in_nI hc (by decide), nm_r (e' := upd a1 c (nI m)) (by rw [nI_clamp (by omega)]) ⟨vp_in_nI h2 (by decide), nm_r (e' := upd a2 m (nI c)) (by rw [nI_clamp (by omega)]) (nm_r (nI_1 c) ?_)⟩⟩
  dsimp only
  rw [nI_pred]
  exact H
/-- a piece that is there -/
theorem pb_add2 {post : Int32 → St2 → Prop} {m : Nat} {c s : Int32} {a1 a2 a3 a4 a5 : Nat → Int32} (h1 : 1 ≤ m) (h2 : m < 64) (h3 : ¬ 4 < pb_n (nI m) 6) (hp : ¬ a2 m < 0)
    (H : post (-2) (c, s, a1, a2, a3, a4, a5)) : wpX_add post (c, s, a1, a2, a3, a4, a5) (nI m) := by
  unfold wpX_add
  dsimp only
  exact pb_isPiece h1 h2 h3 (br_f (by decide) ⟨vp_in_nI h2 (by decide), br_f (by rw [nI_clamp (by omega)]; exact hp) H⟩)
theorem pb_dim {post : Int32 → Prop} {i : Nat} {c s : Int32} {a1 a2 a3 a4 a5 : Nat → Int32} (hi : i < 26) (H : post (pb_n (a1 i) 6 - 1)) : wpX_dimension post (c, s, a1, a2, a3, a4, a5) (nI i) := by
  unfold wpX_dimension
  dsimp only
  rw [nI_clamp (show i < 2 ^ 31 by omega)]
  exact ⟨vp_in_nI hi (by decide), pb_points H⟩
theorem pb_isGood {post : Int32 → Prop} {i c : Nat} {s : Int32} {a1 a2 a3 a4 a5 : Nat → Int32} (hi : i < c) (hc : c < 27) (H : post 1) : wpX_isGood post (nI c, s, a1, a2, a3, a4, a5) (nI i) :=
  pk_lt i 0 (fun z => absurd z (by omega)) (fun _ => pk_le c i (fun z => absurd z (by omega)) (fun _ => H))
/-- a single point has no sides -/
theorem pb_sides1 {post : Int32 → Prop} {i r : Nat} {c s : Int32} {a1 a2 a3 a4 a5 : Nat → Int32} (hi : i < 26) (hr : r < 6) (h1 : a1 i = nI (2 ^ r)) (H : post 0) : wpX_sidesOf post (c, s, a1, a2, a3, a4, a5) (nI i) := by
  refine pk_loop (σ := Unit) (fun n k _ => wX_sidesOf_4 post (nI i) c s a1 a2 a3 a4 a5 n 0 (nI k)) (fun _ _ => True) 6 0 () (by omega) trivial
    (fun n _ _ => pk_le 6 6 (fun _ => H) (fun z => absurd z (by omega)))
    (fun n k _ hk _ hw => pk_le 6 k (fun z => absurd z (by omega)) (fun _ => ?_))
  rw [nI_clamp (show i < 2 ^ 31 by omega), h1]
  refine ⟨vp_in_nI hi (by decide), nm_r (e' := pb_sd (nI (2 ^ r)) k) rfl ⟨vp_in_nI hi (by decide), ?_⟩⟩
  rcases pb_s1 r hr k hk with g | g
  · exact br_t g (nm_r (nI_1 k) (hw () trivial))
  · exact br_c (fun _ => nm_r (nI_1 k) (hw () trivial)) (fun _ => br_t g (nm_r (nI_1 k) (hw () trivial)))
/-- what a pair's border holds after k points -/
def pb_col (p q k : Nat) : Int32 := (if p < k then 2 else 0) ||| (if q < k then 1 else 0)
theorem pb_col0 : ∀ p, p < 6 → ∀ q, q < 6 → pb_col p q 0 = 0 ∧ pb_col p q 6 = 3 := by decide +kernel
theorem pb_colp : ∀ p, p < 6 → ∀ q, q < 6 → p ≠ q → pb_col p q p ||| ((1 : Int32) <<< (nI 1 &&& 31)) = pb_col p q (p + 1) := by decide +kernel
theorem pb_colq : ∀ p, p < 6 → ∀ q, q < 6 → p ≠ q → pb_col p q q ||| ((1 : Int32) <<< (nI 0 &&& 31)) = pb_col p q (q + 1) := by decide +kernel
theorem pb_coln : ∀ p, p < 6 → ∀ q, q < 6 → ∀ k, k < 6 → k ≠ p → k ≠ q → pb_col p q k = pb_col p q (k + 1) := by decide +kernel
theorem pb_sides2 {post : Int32 → Prop} {i p q : Nat} {c s : Int32} {a1 a2 a3 a4 a5 : Nat → Int32} (hi : i < 26) (hp : p < 6) (hq : q < 6) (hn : p ≠ q) (h1 : a1 i = nI (2 ^ p + 2 ^ q)) (h2 : a2 (2 ^ p) = nI 0) (h3 : a2 (2 ^ q) = nI 1) (H : post 3) : wpX_sidesOf post (c, s, a1, a2, a3, a4, a5) (nI i) := by
  have P := pb_pw p hp
  have Q := pb_pw q hq
  have N := pb_pw2 p hp q hq hn
  refine pk_loop (fun n k x => wX_sidesOf_4 post (nI i) c s a1 a2 a3 a4 a5 n x (nI k)) (fun k x => x = pb_col p q k) 6 0 (0 : Int32) (by omega) (pb_col0 p hp q hq).1.symm
    (fun n x h => pk_le 6 6 (fun _ => (by rw [h, (pb_col0 p hp q hq).2]; exact H)) (fun z => absurd z (by omega)))
    (fun n k x hk h hw => pk_le 6 k (fun z => absurd z (by omega)) (fun _ => ?_))
  rw [nI_clamp (show i < 2 ^ 31 by omega), h1]
  refine ⟨vp_in_nI hi (by decide), nm_r (e' := pb_sd (nI (2 ^ p + 2 ^ q)) k) rfl ⟨vp_in_nI hi (by decide), ?_⟩⟩
  by_cases ep : k = p
  · rw [ep, pb_s2a p hp q hq hn]
    refine br_f (fun z => ?_) (br_f (nI_ne0 (by omega) (by omega)) ⟨vp_in_nI Q.2 (by decide), nm_r (e' := pb_col p q (p + 1)) ?_ (nm_r (nI_1 p) ?_)⟩)
    · have := (nI_eq (by omega) (by omega)).mp z
      omega
    · rw [nI_clamp (by omega), h3, h, ep]
      exact pb_colp p hp q hq hn
    · rw [← ep]
      exact hw _ (by rw [ep])
  · by_cases eq : k = q
    · rw [eq, pb_s2b p hp q hq hn]
      refine br_f (fun z => ?_) (br_f (nI_ne0 (by omega) (by omega)) ⟨vp_in_nI P.2 (by decide), nm_r (e' := pb_col p q (q + 1)) ?_ (nm_r (nI_1 q) ?_)⟩)
      · have := (nI_eq (by omega) (by omega)).mp z
        omega
      · rw [nI_clamp (by omega), h2, h, eq]
        exact pb_colq p hp q hq hn
      · rw [← eq]
        exact hw _ (by rw [eq])
    · exact br_t (pb_s2c p hp q hq hn k hk ep eq) (nm_r (nI_1 k) (hw _ (h.trans (pb_coln p hp q hq k hk ep eq))))
theorem pb_lowest {post : Int32 → Prop} (H : post 1) : wpX_lowest post () 3 := by
  have key : ∀ k, k ≤ 24 → wX_lowest_3 post 3 (k + 1) (nI (k + 1)) := by
    intro k
    induction k with
    | zero => exact fun _ => br_f (by decide) (br_f (by decide) H)
    | succ k ih => exact fun hk => pk_le (k + 1 + 1) 0 (fun z => absurd z (by omega)) (fun _ => br_t (pb_low3 (k + 1 + 1) (by omega) (by omega)) (nm_r (pk_m1 (k + 1)) (ih (by omega))))
  exact ⟨25, key 24 (by omega)⟩
end
section
/-- the picture ahead of solve: two points p, q, the pair, perhaps a third point; c pieces -/
def pb_S (p q c : Nat) (a1 a2 : Nat → Int32) : Prop := p < 6 ∧ q < 6 ∧ p ≠ q ∧ (c = 3 ∨ c = 4) ∧ a1 0 = nI (2 ^ p) ∧ a1 1 = nI (2 ^ q) ∧ a1 2 = nI (2 ^ p + 2 ^ q) ∧ a2 (2 ^ p) = nI 0 ∧ a2 (2 ^ q) = nI 1 ∧ (c = 4 → ∃ r, r < 6 ∧ a1 3 = nI (2 ^ r))
/-- .. and behind it -/
def pb_K (p q c : Nat) (a1 a2 a3 a4 a5 : Nat → Int32) : Prop := pb_S p q c a1 a2 ∧ a3 0 = 0 ∧ a3 1 = 0 ∧ a3 2 = 3 ∧ a4 0 = -2 ∧ a4 1 = 2 ∧ a4 2 = 1 ∧ a5 1 = 2 ∧ (c = 4 → a3 3 = 0 ∧ a4 3 = -2)
theorem pb_turn1 {post : St2 → Prop} {n i r c : Nat} {s : Int32} {a1 a2 a3 a4 a5 : Nat → Int32} (hi : i < c) (hc : c ≤ 26) (hr : r < 6) (h1 : a1 i = nI (2 ^ r))
    (H : wX_solve_5 post (nI c) s n (nI (i + 1)) a1 a2 (upd a3 i 0) (upd a4 i (-2)) (upd a5 i (-2))) : wX_solve_5 post (nI c) s (n + 1) (nI i) a1 a2 a3 a4 a5 := by
  refine pk_le c i (fun z => absurd z (by omega)) (fun _ => ⟨vp_in_nI (by omega) (by decide), nm_r (e' := upd a4 i (-2)) (by rw [nI_clamp (by omega)]) ⟨vp_in_nI (by omega) (by decide), nm_r (e' := upd a5 i (-2)) (by rw [nI_clamp (by omega)]) ?_⟩⟩)
  refine pb_sides1 (by omega) hr h1 ⟨1, br_f (by decide) (br_t rfl ?_)⟩
  exact ⟨vp_in_nI (by omega) (by decide), nm_r (e' := upd a3 i 0) (by rw [nI_clamp (by omega)]) (br_t rfl (nm_r (nI_1 i) H))⟩
theorem pb_turn2 {post : St2 → Prop} {n p q c : Nat} {s : Int32} {a1 a2 a3 a4 a5 : Nat → Int32} (h : pb_S p q c a1 a2) (h5 : a5 1 = -2)
    (H : wX_solve_5 post (nI c) s n (nI 3) a1 a2 (upd a3 2 3) (upd (upd (upd a4 2 (-2)) 1 (nI 2)) 2 1) (upd (upd a5 2 (-2)) 1 (nI 2))) : wX_solve_5 post (nI c) s (n + 1) (nI 2) a1 a2 a3 a4 a5 := by
  obtain ⟨hp, hq, hn, hc, g0, g1, g2, g3, g4, g5⟩ := h
  refine pk_le c 2 (fun z => absurd z (by omega)) (fun _ => ⟨vp_in_nI (by omega) (by decide), nm_r (e' := upd a4 2 (-2)) (by rw [nI_clamp (by omega)]) ⟨vp_in_nI (by omega) (by decide), nm_r (e' := upd a5 2 (-2)) (by rw [nI_clamp (by omega)]) ?_⟩⟩)
  refine pb_sides2 (by omega) hp hq hn g2 g3 g4 ⟨1, br_f (by decide) (br_f (by decide) (pb_lowest ⟨pk_in 1 26 (by omega), br_f ?_ ?_⟩))⟩
  · rw [show (1 : Int32).toNatClampNeg = 1 from pk_cl 1, pk_un (by decide), h5]
    decide
  · refine ⟨vp_in_nI (by omega) (by decide), nm_r (e' := upd a3 2 3) (by rw [nI_clamp (by omega)]) (br_f (by decide) (pb_lowest ?_))⟩
    rw [show (1 : Int32).toNatClampNeg = 1 from pk_cl 1, nI_clamp (show 2 < 2 ^ 31 by omega)]
    exact ⟨pk_in 1 26 (by omega), nm_e ⟨pk_in 1 26 (by omega), nm_e ⟨vp_in_nI (by omega) (by decide), nm_e (nm_r (nI_1 2) H)⟩⟩⟩
theorem pb_solve {post : St2 → Prop} {p q c : Nat} {a1 a2 a3 a4 a5 : Nat → Int32} (h : pb_S p q c a1 a2) (H : ∀ b3 b4 b5, pb_K p q c a1 a2 b3 b4 b5 → post (nI c, nI c, a1, a2, b3, b4, b5)) : wpX_solve post (nI c, 0, a1, a2, a3, a4, a5) := by
  have h' := h
  obtain ⟨hp, hq, hn, hc, g0, g1, g2, g3, g4, g5⟩ := h'
  rcases hc with hc | hc
  · refine ⟨4, pb_turn1 (i := 0) (by omega) (by omega) hp g0 (pb_turn1 (i := 1) (by omega) (by omega) hq g1 (pb_turn2 h rfl (pk_le c 3 (fun _ => H _ _ _ ⟨h, rfl, rfl, rfl, rfl, rfl, rfl, rfl, fun z => absurd z (by omega)⟩) (fun z => absurd z (by omega)))))⟩
  · obtain ⟨r, hr, g6⟩ := g5 hc
    refine ⟨5, pb_turn1 (i := 0) (by omega) (by omega) hp g0 (pb_turn1 (i := 1) (by omega) (by omega) hq g1 (pb_turn2 h rfl (pb_turn1 (i := 3) (by omega) (by omega) hr g6 (pk_le c 4 (fun _ => H _ _ _ ⟨h, rfl, rfl, rfl, rfl, rfl, rfl, rfl, fun z => ⟨rfl, rfl⟩⟩) (fun z => absurd z (by omega))))))⟩
/-- nothing is new: nothing happens -/
theorem pb_solve0 {post : St2 → Prop} {c : Int32} {a1 a2 a3 a4 a5 : Nat → Int32} (H : post (c, c, a1, a2, a3, a4, a5)) : wpX_solve post (c, c, a1, a2, a3, a4, a5) :=
  ⟨1, br_t (Int32.le_refl c) H⟩
theorem pb_i4 {c i : Nat} (hc : c = 3 ∨ c = 4) (hi : i < c) : i = 0 ∨ i = 1 ∨ i = 2 ∨ (c = 4 ∧ i = 3) := by omega
/-- the pieces' dimensions -/
theorem pb_d {p q c : Nat} {a1 a2 : Nat → Int32} (h : pb_S p q c a1 a2) : ∀ i, i < c → pb_n (a1 i) 6 - 1 = if i = 2 then 1 else 0 := by
  obtain ⟨hp, hq, hn, hc, g0, g1, g2, g3, g4, g5⟩ := h
  intro i hi
  have := pb_i4 hc hi
  rcases this with rfl | rfl | rfl | ⟨h4, rfl⟩
  · rw [g0, pb_n1 p hp]; decide
  · rw [g1, pb_n1 q hq]; decide
  · rw [g2, pb_n2 p hp q hq hn]; decide
  · obtain ⟨r, hr, e⟩ := g5 h4
    rw [e, pb_n1 r hr]; decide
/-- .. and borders -/
theorem pb_b {post : Int32 → Prop} {p q c i : Nat} {k s : Int32} {a1 a2 a3 a4 a5 : Nat → Int32} (h : pb_S p q c a1 a2) (hi : i < c) (H : post (if i = 2 then 3 else 0)) : wpX_sidesOf post (k, s, a1, a2, a3, a4, a5) (nI i) := by
  obtain ⟨hp, hq, hn, hc, g0, g1, g2, g3, g4, g5⟩ := h
  have := pb_i4 hc hi
  rcases this with rfl | rfl | rfl | ⟨h4, rfl⟩
  · exact pb_sides1 (by omega) hp g0 H
  · exact pb_sides1 (by omega) hq g1 H
  · exact pb_sides2 (by omega) hp hq hn g2 g3 g4 H
  · obtain ⟨r, hr, e⟩ := g5 h4
    exact pb_sides1 (by omega) hr e H
theorem pb_opens {post : Int32 → St2 → Prop} {p q c : Nat} {a1 a2 a3 a4 a5 : Nat → Int32} (h : pb_S p q c a1 a2) (H : ∀ b3 b4 b5, pb_K p q c a1 a2 b3 b4 b5 → post 0 (nI c, nI c, a1, a2, b3, b4, b5)) : wpX_opens post (nI c, 0, a1, a2, a3, a4, a5) 2 := by
  have hc := h.2.2.2.1
  unfold wpX_opens
  dsimp only
  refine pb_isGood (i := 2) (by omega) (by omega) (br_f (by decide) (pb_solve h (fun b3 b4 b5 k => ⟨pk_in 2 26 (by omega), br_f ?_ (H b3 b4 b5 k)⟩)))
  dsimp only
  rw [show (2 : Int32).toNatClampNeg = 2 from pk_cl 2, k.2.2.2.1]
  decide
theorem pb_partner {post : Int32 → St2 → Prop} {p q c : Nat} {a1 a2 a3 a4 a5 : Nat → Int32} (k : pb_K p q c a1 a2 a3 a4 a5) (H : post 1 (nI c, nI c, a1, a2, a3, a4, a5)) : wpX_partner post (nI c, nI c, a1, a2, a3, a4, a5) 2 := by
  have hc := k.1.2.2.2.1
  unfold wpX_partner
  dsimp only
  refine pb_isGood (i := 2) (by omega) (by omega) (br_f (by decide) (pb_solve0 ⟨pk_in 2 26 (by omega), ?_⟩))
  dsimp only
  rw [show (2 : Int32).toNatClampNeg = 2 from pk_cl 2, k.2.2.2.2.2.2.1]
  exact H
end
section
/-- how many holes of dimension 0 are opened before a place and not closed before x -/
def pb_lv (a1 a3 a4 : Nat → Int32) (x : Int32) : Nat → Int32
  | 0 => 0
  | a + 1 => pb_lv a1 a3 a4 x a + (if pb_n (a1 a) 6 - 1 = 0 ∧ a3 a = 0 ∧ (a4 a < 0 ∨ x ≤ a4 a) then 1 else 0)
theorem pb_42 {post : Int32 → St2 → Prop} {J : Int32 → Int32 → Prop} {x1 x2 x4 z0 c s : Int32} {a1 a2 a3 a4 a5 : Nat → Int32} {a : Nat} (ha : a < 26)
    (H1 : pb_n (a1 a) 6 - 1 = 0 ∧ a3 a = 0 ∧ z0 = 0 → J (x4 + 1) (nI (a + 1))) (H0 : ¬ (pb_n (a1 a) 6 - 1 = 0 ∧ a3 a = 0 ∧ z0 = 0) → J (x4 + 0) (nI (a + 1))) : wX_living_42 post J x1 x2 0 x4 (nI a) z0 c s a1 a2 a3 a4 a5 := by
  unfold wX_living_42
  rw [nI_clamp (show a < 2 ^ 31 by omega)]
  refine pb_dim ha (br_c (fun e => ⟨vp_in_nI ha (by decide), br_c (fun e3 => br_c (fun ez => nm_e (nm_r (nI_1 a) (H1 ⟨e, e3, ez⟩))) (fun ez => nm_e (nm_r (nI_1 a) (H0 (fun t => ez t.2.2))))) (fun e3 => nm_e (nm_r (nI_1 a) (H0 (fun t => e3 t.2.1))))⟩) (fun e => nm_e (nm_r (nI_1 a) (H0 (fun t => e t.1)))))
theorem pb_living {post : Int32 → St2 → Prop} {i : Nat} {x2 c s : Int32} {a1 a2 a3 a4 a5 : Nat → Int32} (hi : i ≤ 26) (H : post (pb_lv a1 a3 a4 x2 i) (c, s, a1, a2, a3, a4, a5)) : ∃ fu, wX_living_10 post (nI i) x2 0 c s a1 a2 a3 a4 a5 fu 0 0 := by
  refine pk_loop (fun n a x => wX_living_10 post (nI i) x2 0 c s a1 a2 a3 a4 a5 n x (nI a)) (fun a x => x = pb_lv a1 a3 a4 x2 a) i 0 (0 : Int32) (by omega) rfl
    (fun n x h => pk_le i i (fun _ => (by rw [h]; exact H)) (fun z => absurd z (by omega)))
    (fun n a x ha h hw => pk_le i a (fun z => absurd z (by omega)) (fun _ => ?_))
  rw [nI_clamp (show a < 2 ^ 31 by omega)]
  have E1 : (pb_n (a1 a) 6 - 1 = 0 ∧ a3 a = 0 ∧ (a4 a < 0 ∨ x2 ≤ a4 a)) → wX_living_10 post (nI i) x2 0 c s a1 a2 a3 a4 a5 n (x + 1) (nI (a + 1)) := fun e => hw _ (by
    show x + 1 = pb_lv a1 a3 a4 x2 a + _
    rw [if_pos e, h])
  have E0 : ¬ (pb_n (a1 a) 6 - 1 = 0 ∧ a3 a = 0 ∧ (a4 a < 0 ∨ x2 ≤ a4 a)) → wX_living_10 post (nI i) x2 0 c s a1 a2 a3 a4 a5 n (x + 0) (nI (a + 1)) := fun e => hw _ (by
    show x + 0 = pb_lv a1 a3 a4 x2 a + _
    rw [if_neg e, h])
  refine ⟨vp_in_nI (by omega) (by decide), br_c (fun g => ?_) (fun g => ⟨vp_in_nI (by omega) (by decide), br_c (fun g2 => ?_) (fun g2 => ?_)⟩)⟩
  · exact pb_42 (by omega) (fun t => E1 ⟨t.1, t.2.1, Or.inl g⟩) (fun t => E0 (fun u => t ⟨u.1, u.2.1, rfl⟩))
  · exact pb_42 (by omega) (fun t => E1 ⟨t.1, t.2.1, Or.inr g2⟩) (fun t => E0 (fun u => t ⟨u.1, u.2.1, rfl⟩))
  · exact pb_42 (by omega) (fun t => absurd t.2.2 (by decide)) (fun t => E0 (fun u => u.2.2.elim g g2))
def pb_due (i j : Nat) : Nat := if i < 2 then i else if i = 2 then (if j = 2 then 2 else 1) else if i = 3 then 1 else 2
theorem pb_lvK {p q c i j : Nat} {a1 a2 a3 a4 a5 : Nat → Int32} (k : pb_K p q c a1 a2 a3 a4 a5) (hij : i ≤ j) (hj : j ≤ c) : pb_lv a1 a3 a4 (nI j) i = nI (pb_due i j) := by
  obtain ⟨hS, k0, k1, k2, l0, l1, l2, l5, k4⟩ := k
  have hc := hS.2.2.2.1
  have D := pb_d hS
  have C0 : pb_n (a1 0) 6 - 1 = 0 ∧ a3 0 = 0 ∧ (a4 0 < 0 ∨ nI j ≤ a4 0) := ⟨by rw [D 0 (by omega)]; decide, k0, Or.inl (by rw [l0]; decide)⟩
  have C1 : j ≤ 2 → pb_n (a1 1) 6 - 1 = 0 ∧ a3 1 = 0 ∧ (a4 1 < 0 ∨ nI j ≤ a4 1) := fun z => ⟨by rw [D 1 (by omega)]; decide, k1, Or.inr (by rw [l1]; exact nI_le z (by decide))⟩
  have C1' : 2 < j → ¬ (pb_n (a1 1) 6 - 1 = 0 ∧ a3 1 = 0 ∧ (a4 1 < 0 ∨ nI j ≤ a4 1)) := fun z t => t.2.2.elim (by rw [l1]; decide) (by rw [l1]; exact nI_ge z (by omega))
  have C2 : ¬ (pb_n (a1 2) 6 - 1 = 0 ∧ a3 2 = 0 ∧ (a4 2 < 0 ∨ nI j ≤ a4 2)) := fun t => absurd t.2.1 (by rw [k2]; decide)
  have C3 : c = 4 → pb_n (a1 3) 6 - 1 = 0 ∧ a3 3 = 0 ∧ (a4 3 < 0 ∨ nI j ≤ a4 3) := fun z => ⟨by rw [D 3 (by omega)]; decide, (k4 z).1, Or.inl (by rw [(k4 z).2]; decide)⟩
  have T1 : pb_lv a1 a3 a4 (nI j) 1 = 1 := by
    show (0 : Int32) + _ = _
    rw [if_pos C0]; rfl
  have T2 : j ≤ 2 → pb_lv a1 a3 a4 (nI j) 2 = 2 := fun z => by
    show pb_lv a1 a3 a4 (nI j) 1 + _ = _
    rw [if_pos (C1 z), T1]; rfl
  have T2' : 2 < j → pb_lv a1 a3 a4 (nI j) 2 = 1 := fun z => by
    show pb_lv a1 a3 a4 (nI j) 1 + _ = _
    rw [if_neg (C1' z), T1]; rfl
  have T3 : 2 < j → pb_lv a1 a3 a4 (nI j) 3 = 1 := fun z => by
    show pb_lv a1 a3 a4 (nI j) 2 + _ = _
    rw [if_neg C2, T2' z]; rfl
  have T4 : 2 < j → c = 4 → pb_lv a1 a3 a4 (nI j) 4 = 2 := fun z z4 => by
    show pb_lv a1 a3 a4 (nI j) 3 + _ = _
    rw [if_pos (C3 z4), T3 z]; rfl
  have : i = 0 ∨ i = 1 ∨ i = 2 ∨ i = 3 ∨ i = 4 := by omega
  rcases this with rfl | rfl | rfl | rfl | rfl
  · rfl
  · rw [T1]; rfl
  · by_cases e : j = 2
    · rw [T2 (by omega), e]; rfl
    · rw [T2' (by omega), show pb_due 2 j = 1 from by simp [pb_due, e]]; rfl
  · rw [T3 (by omega)]; rfl
  · rw [T4 (by omega) (by omega)]; rfl
theorem pb_living0 {post : Int32 → St2 → Prop} {p q c i j : Nat} {a1 a2 a3 a4 a5 : Nat → Int32} (k : pb_K p q c a1 a2 a3 a4 a5) (hij : i ≤ j) (hj : j ≤ c) (H : post (nI (pb_due i j)) (nI c, nI c, a1, a2, a3, a4, a5)) : wpX_living post (nI c, nI c, a1, a2, a3, a4, a5) (nI i) (nI j) 0 := by
  have hc := k.1.2.2.2.1
  unfold wpX_living
  dsimp only
  exact pb_solve0 (pb_living (by omega) (by rw [pb_lvK k hij hj]; exact H))
theorem pb_forever {post : Int32 → St2 → Prop} {p q c : Nat} {a1 a2 a3 a4 a5 : Nat → Int32} (k : pb_K p q c a1 a2 a3 a4 a5) (H : post (nI (pb_due c c)) (nI c, nI c, a1, a2, a3, a4, a5)) : wpX_forever post (nI c, nI c, a1, a2, a3, a4, a5) 0 := by
  unfold wpX_forever
  dsimp only
  exact br_f (by decide) (br_t (by decide) (pb_living0 k (Nat.le_refl c) (Nat.le_refl c) H))
/-- lasting: the places in order -/
theorem pb_lasting {post : Int32 → St2 → Prop} {p q c i j : Nat} {a1 a2 a3 a4 a5 : Nat → Int32} (k : pb_K p q c a1 a2 a3 a4 a5) (hij : i ≤ j) (hj : j ≤ c) (H : post (nI (pb_due i j)) (nI c, nI c, a1, a2, a3, a4, a5)) : wpX_lasting post (nI c, nI c, a1, a2, a3, a4, a5) (nI i) (nI j) 0 := by
  have hc := k.1.2.2.2.1
  unfold wpX_lasting
  dsimp only
  exact pk_lt i 0 (fun z => absurd z (by omega)) (fun _ => pk_lt j i (fun z => absurd z (by omega)) (fun _ => pk_le j c (fun _ => br_f (by decide) (br_t (by decide) (pb_living0 k hij hj H))) (fun z => absurd z (by omega))))
/-- .. and not -/
theorem pb_lasting' {post : Int32 → St2 → Prop} {x y c s : Int32} {a1 a2 a3 a4 a5 : Nat → Int32} (h : x < 0 ∨ y < x ∨ ¬ y ≤ c) (H : post (-1) (c, s, a1, a2, a3, a4, a5)) : wpX_lasting post (c, s, a1, a2, a3, a4, a5) x y 0 := by
  unfold wpX_lasting
  dsimp only
  exact br_c (fun _ => H) (fun e1 => br_c (fun _ => H) (fun e2 => br_c (fun e3 => (h.elim (fun t => absurd t e1) (fun t => t.elim (fun t => absurd t e2) (fun t => absurd e3 t)))) (fun _ => H)))
end
section
theorem pb_chain {post : Int32 → Prop} {c : Nat} {x s : Int32} {a1 a2 a3 a4 a5 : Nat → Int32} (hc : c = 3 ∨ c = 4) (hx : x = 3 ∨ x = 4) (H : post 1) : wpX_isChain post (nI c, s, a1, a2, a3, a4, a5) x := by
  rcases hc with rfl | rfl <;> rcases hx with rfl | rfl <;> exact br_f (by decide) (br_f (by decide) H)
theorem pb_even4 {post : Int32 → Prop} {p q c : Nat} {s : Int32} {a1 a2 a3 a4 a5 : Nat → Int32} (h : pb_S p q c a1 a2) (H : post 1) : wpX_isEven post (nI c, s, a1, a2, a3, a4, a5) 4 := by
  have hc := h.2.2.2.1
  refine pk_loop (fun n i x => wX_isEven_5 post 4 (nI c) s a1 a2 a3 a4 a5 n x (nI i)) (fun i x => i ≤ 2 → x = -2) c 0 (-2 : Int32) (by omega) (fun _ => rfl)
    (fun n x _ => pk_le c c (fun _ => H) (fun z => absurd z (by omega)))
    (fun n i x hi h' hw => pk_le c i (fun z => absurd z (by omega)) (fun _ => ?_))
  rw [pb_c4 i (by omega)]
  by_cases e : i = 2
  · rw [if_pos e]
    exact br_t rfl (pb_dim (by omega) (br_t (h' (by omega)) (nm_r (nI_1 i) (hw _ (fun z => absurd z (by omega))))))
  · rw [if_neg e]
    exact br_f (by decide) (nm_r (nI_1 i) (hw _ (fun z => h' (by omega))))
theorem pb_even3 {post : Int32 → Prop} {p q c : Nat} {s : Int32} {a1 a2 a3 a4 a5 : Nat → Int32} (h : pb_S p q c a1 a2) (H : post 1) : wpX_isEven post (nI c, s, a1, a2, a3, a4, a5) 3 := by
  have hc := h.2.2.2.1
  refine pk_loop (fun n i x => wX_isEven_5 post 3 (nI c) s a1 a2 a3 a4 a5 n x (nI i)) (fun i x => (i = 0 → x = -2) ∧ (0 < i → x = 0)) c 0 (-2 : Int32) (by omega) ⟨fun _ => rfl, fun z => absurd z (by omega)⟩
    (fun n x _ => pk_le c c (fun _ => H) (fun z => absurd z (by omega)))
    (fun n i x hi h' hw => pk_le c i (fun z => absurd z (by omega)) (fun _ => ?_))
  rw [pb_c3 i (by omega)]
  by_cases e : i < 2
  · have d : pb_n (a1 i) 6 - 1 = 0 := by rw [pb_d h i hi, if_neg (by omega)]
    rw [if_pos e]
    refine br_t rfl (pb_dim (by omega) ?_)
    rw [d]
    by_cases e0 : i = 0
    · exact br_t (h'.1 e0) (nm_r (nI_1 i) (hw _ ⟨fun z => absurd z (by omega), fun _ => rfl⟩))
    · exact br_f (by rw [h'.2 (by omega)]; decide) (br_t (h'.2 (by omega)) (nm_r (nI_1 i) (hw _ ⟨fun z => absurd z (by omega), fun _ => rfl⟩)))
  · rw [if_neg e]
    exact br_f (by decide) (nm_r (nI_1 i) (hw _ ⟨fun z => absurd z (by omega), fun _ => h'.2 (by omega)⟩))
theorem pb_bo4 {post : Int32 → Prop} {p q c : Nat} {s : Int32} {a1 a2 a3 a4 a5 : Nat → Int32} (h : pb_S p q c a1 a2) (H : post 3) : wpX_borderOf post (nI c, s, a1, a2, a3, a4, a5) 4 := by
  have hc := h.2.2.2.1
  refine pk_loop (fun n i x => wX_borderOf_4 post 4 (nI c) s a1 a2 a3 a4 a5 n x (nI i)) (fun i x => x = if i ≤ 2 then 0 else 3) c 0 (0 : Int32) (by omega) rfl
    (fun n x h' => pk_le c c (fun _ => (by rw [h', if_neg (by omega)]; exact H)) (fun z => absurd z (by omega)))
    (fun n i x hi h' hw => pk_le c i (fun z => absurd z (by omega)) (fun _ => ?_))
  rw [pb_c4 i (by omega)]
  by_cases e : i = 2
  · subst e
    exact br_t rfl (pb_b h hi (nm_r (e' := 3) (by rw [h']; decide) (nm_r (nI_1 2) (hw _ rfl))))
  · rw [if_neg e]
    refine br_f (by decide) (nm_r (nI_1 i) (hw _ ?_))
    by_cases e2 : i ≤ 2
    · rw [h', if_pos e2, if_pos (by omega)]
    · rw [h', if_neg e2, if_neg (by omega)]
theorem pb_bo3 {post : Int32 → Prop} {p q c : Nat} {s : Int32} {a1 a2 a3 a4 a5 : Nat → Int32} (h : pb_S p q c a1 a2) (H : post 0) : wpX_borderOf post (nI c, s, a1, a2, a3, a4, a5) 3 := by
  have hc := h.2.2.2.1
  refine pk_loop (fun n i x => wX_borderOf_4 post 3 (nI c) s a1 a2 a3 a4 a5 n x (nI i)) (fun i x => x = 0) c 0 (0 : Int32) (by omega) rfl
    (fun n x h' => pk_le c c (fun _ => (by rw [h']; exact H)) (fun z => absurd z (by omega)))
    (fun n i x hi h' hw => pk_le c i (fun z => absurd z (by omega)) (fun _ => ?_))
  rw [pb_c3 i (by omega)]
  by_cases e : i < 2
  · rw [if_pos e]
    refine br_t rfl (pb_b h hi ?_)
    rw [if_neg (by omega)]
    exact nm_r (e' := 0) (by rw [h']; decide) (nm_r (nI_1 i) (hw _ rfl))
  · rw [if_neg e]
    exact br_f (by decide) (nm_r (nI_1 i) (hw _ h'))
theorem pb_border {post : Int32 → Prop} {p q c : Nat} {s : Int32} {a1 a2 a3 a4 a5 : Nat → Int32} (h : pb_S p q c a1 a2) (H : post 3) : wpX_border post (nI c, s, a1, a2, a3, a4, a5) 4 := by
  unfold wpX_border
  dsimp only
  exact pb_chain h.2.2.2.1 (Or.inr rfl) (br_f (by decide) (pb_even4 h (br_f (by decide) (pb_bo4 h H))))
theorem pb_down {post : Int32 → St2 → Prop} {c s : Int32} {a1 a2 a3 a4 a5 : Nat → Int32} (h3 : a3 2 = 3) (h5 : a5 1 = 2) (H : post 1 (c, s, a1, a2, a3, a4, a5)) : wX_bounds_44 post c s a1 a2 a3 a4 a5 4 3 (nI 2) := by
  have A0 : wX_bounds_44 post c s a1 a2 a3 a4 a5 2 0 (nI 0) := br_f (by decide) (br_f (by decide) (nm_e (br_t (by decide) H)))
  have A1 : wX_bounds_44 post c s a1 a2 a3 a4 a5 3 3 (nI 1) := by
    refine br_f (by decide) (br_t (by decide) ⟨vp_in_nI (by omega) (by decide), ?_⟩)
    rw [nI_clamp (show 1 < 2 ^ 31 by omega), h5]
    refine br_t (by decide) ⟨vp_in_nI (by omega) (by decide), pk_in 2 26 (by omega), nm_r (e' := 0) ?_ (nm_r (pk_m1 0) A0)⟩
    rw [show (2 : Int32).toNatClampNeg = 2 from pk_cl 2, h3]
    decide
  exact br_f (by decide) (br_f (by decide) (nm_r (pk_m1 1) A1))
theorem pb_bounds {post : Int32 → St2 → Prop} {p q c : Nat} {a1 a2 a3 a4 a5 : Nat → Int32} (k : pb_K p q c a1 a2 a3 a4 a5) (H : post 1 (nI c, nI c, a1, a2, a3, a4, a5)) : wpX_bounds post (nI c, nI c, a1, a2, a3, a4, a5) 3 := by
  obtain ⟨hS, k0, k1, k2, l0, l1, l2, l5, k4⟩ := k
  have hc := hS.2.2.2.1
  unfold wpX_bounds
  dsimp only
  refine pb_chain hc (Or.inl rfl) (br_f (by decide) (pb_even3 hS (br_f (by decide) (pb_bo3 hS (br_t rfl (pb_solve0 (nm_e ?_)))))))
  dsimp only
  rcases hc with rfl | rfl
  · rw [show nI 3 - 1 = nI 2 from by decide]
    exact ⟨4, pb_down k2 l5 H⟩
  · exact ⟨5, br_f (by decide) (br_f (by decide) (nm_r (e' := nI 2) (by decide) (pb_down k2 l5 H)))⟩
theorem pb_longest {post : Int32 → St2 → Prop} {p q c : Nat} {a1 a2 a3 a4 a5 : Nat → Int32} (k : pb_K p q c a1 a2 a3 a4 a5) (H : post 1 (nI c, nI c, a1, a2, a3, a4, a5)) : wpX_longest post (nI c, nI c, a1, a2, a3, a4, a5) 0 := by
  obtain ⟨hS, k0, k1, k2, l0, l1, l2, l5, k4⟩ := k
  have hc := hS.2.2.2.1
  unfold wpX_longest
  dsimp only
  refine br_f (by decide) (br_t (by decide) (pb_solve0 ?_))
  refine pk_loop (fun n i x => wX_longest_19 post 0 (nI c) (nI c) a1 a2 a3 a4 a5 n x (nI i)) (fun i x => x = if i ≤ 1 then 0 else 1) c 0 (0 : Int32) (by omega) rfl
    (fun n x h' => pk_le c c (fun _ => (by rw [h', if_neg (by omega)]; exact H)) (fun z => absurd z (by omega)))
    (fun n i x hi h' hw => pk_le c i (fun z => absurd z (by omega)) (fun _ => ?_))
  refine pb_dim (by omega) ?_
  rw [pb_d hS i hi, nI_clamp (show i < 2 ^ 31 by omega)]
  have := pb_i4 hc hi
  rcases this with rfl | rfl | rfl | ⟨h4, rfl⟩
  · exact br_t rfl ⟨vp_in_nI (by omega) (by decide), br_t (by rw [l0]; decide) (nm_r (nI_1 0) (hw _ h'))⟩
  · rw [l1]
    exact br_t rfl ⟨vp_in_nI (by omega) (by decide), br_f (by decide) ⟨vp_in_nI (by omega) (by decide), br_f (by rw [h']; decide) ⟨vp_in_nI (by omega) (by decide), nm_r (e' := 1) (by decide) (nm_r (nI_1 1) (hw _ rfl))⟩⟩⟩
  · exact br_f (by decide) (nm_r (nI_1 2) (hw _ h'))
  · exact br_t rfl ⟨vp_in_nI (by omega) (by decide), br_t (by rw [(k4 h4).2]; decide) (nm_r (nI_1 3) (hw _ h'))⟩
end
section
theorem pb_tail {post : Int32 → St0 → Prop} {mc ms kc ks p q c : Nat} {x9 z0 z1 : Int32} {a1 a2 a3 a4 a5 : Nat → Int32} (k : pb_K p q c a1 a2 a3 a4 a5) (hx : x9 = if c = 3 then 0 else 1) (hz : z1 = z0) (H : post 1 ()) : wL_lawOf_246 post mc ms x9 z0 z1 kc ks (nI c) (nI c) a1 a2 a3 a4 a5 := by
  have hc := k.1.2.2.2.1
  unfold wL_lawOf_246
  refine br_t hz (pb_border k.1 (br_t rfl (pb_bounds k (br_t rfl (pb_longest k (br_t rfl (pb_forever k ?_)))))))
  rcases hc with rfl | rfl
  · exact br_t hx (br_t rfl H)
  · exact br_f (by rw [hx]; decide) (br_t rfl H)
theorem pb_bad {post : Int32 → St0 → Prop} {mc ms kc ks p q c : Nat} {x y x9 z0 : Int32} {a1 a2 a3 a4 a5 : Nat → Int32} (k : pb_K p q c a1 a2 a3 a4 a5) (hx : x9 = if c = 3 then 0 else 1) (h : x < 0 ∨ y < x ∨ ¬ y ≤ nI c) (H : post 1 ()) : wL_lawOf_224 post mc ms x y x9 0 z0 kc ks (nI c) (nI c) a1 a2 a3 a4 a5 := by
  unfold wL_lawOf_224
  exact pb_lasting' h (br_t rfl (pb_tail k hx rfl H))
theorem pb_good {post : Int32 → St0 → Prop} {mc ms kc ks p q c i j : Nat} {x9 z0 : Int32} {a1 a2 a3 a4 a5 : Nat → Int32} (k : pb_K p q c a1 a2 a3 a4 a5) (hx : x9 = if c = 3 then 0 else 1) (hij : i ≤ j) (hj : j ≤ c) (hz : nI (pb_due i j) = z0) (H : post 1 ()) : wL_lawOf_224 post mc ms (nI i) (nI j) x9 1 z0 kc ks (nI c) (nI c) a1 a2 a3 a4 a5 := by
  unfold wL_lawOf_224
  exact pb_lasting k hij hj (br_f (by decide) (pb_tail k hx hz H))
theorem pb_184b {post : Int32 → St0 → Prop} {mc ms kc ks p q c : Nat} {x y x9 : Int32} {a1 a2 a3 a4 a5 : Nat → Int32} (k : pb_K p q c a1 a2 a3 a4 a5) (hx : x9 = if c = 3 then 0 else 1) (h : x < 0 ∨ y < x ∨ ¬ y ≤ nI c) (H : post 1 ()) : wL_lawOf_184 post mc ms x y x9 0 kc ks (nI c) (nI c) a1 a2 a3 a4 a5 :=
  br_c (fun _ => br_c (fun _ => br_c (fun _ => pb_bad k hx h H) (fun _ => pb_bad k hx h H)) (fun _ => br_c (fun _ => pb_bad k hx h H) (fun _ => pb_bad k hx h H))) (fun _ => pb_bad k hx h H)
theorem pb_184g {post : Int32 → St0 → Prop} {mc ms kc ks p q c i j : Nat} {x9 : Int32} {a1 a2 a3 a4 a5 : Nat → Int32} (k : pb_K p q c a1 a2 a3 a4 a5) (hx : x9 = if c = 3 then 0 else 1) (hij : i ≤ j) (hj : j ≤ c) (H : post 1 ()) : wL_lawOf_184 post mc ms (nI i) (nI j) x9 1 kc ks (nI c) (nI c) a1 a2 a3 a4 a5 := by
  have hc := k.1.2.2.2.1
  refine pk_le 2 i (fun g => pk_eq i 2 (fun e => pk_eq j 2 (fun e2 => pb_good k hx hij hj ?_ H) (fun e2 => pb_good k hx hij hj ?_ H)) (fun e => pk_eq i 3 (fun e3 => pb_good k hx hij hj ?_ H) (fun e3 => pb_good k hx hij hj ?_ H))) (fun g => pb_good k hx hij hj ?_ H)
  · rw [e, e2]; rfl
  · rw [show pb_due i j = 1 from by simp [pb_due, e, e2]]; rfl
  · rw [e3]; rfl
  · rw [show pb_due i j = 2 from by simp [pb_due, e, e3]; omega]; rfl
  · rw [show pb_due i j = i from if_pos g]
theorem pb_160 {post : Int32 → St0 → Prop} {mc ms kc ks p q c : Nat} {x y x9 : Int32} {a1 a2 a3 a4 a5 : Nat → Int32} (k : pb_K p q c a1 a2 a3 a4 a5) (hx : x9 = if c = 3 then 0 else 1) (H : post 1 ()) : wL_lawOf_160 post mc ms x y x9 (nI c) kc ks (nI c) (nI c) a1 a2 a3 a4 a5 := by
  have hc := k.1.2.2.2.1
  refine br_c (fun e => pb_184b k hx (Or.inl e) H) (fun e1 => br_c (fun e => pb_184b k hx (Or.inr (Or.inl e)) H) (fun e2 => br_c (fun e => pb_184b k hx (Or.inr (Or.inr (Int32.not_le.mpr e))) H) (fun e3 => ?_)))
  obtain ⟨i, hi, rfl⟩ := nI_of e1
  have e4 : ¬ y < 0 := by
    intro t
    rw [Int32.lt_iff_toInt_lt] at t e2
    rw [nI_toInt hi] at e2
    have : (0 : Int32).toInt = 0 := by decide
    omega
  obtain ⟨j, hj, rfl⟩ := nI_of e4
  rw [nI_ltI hj hi] at e2
  rw [nI_ltI (by omega) hj] at e3
  exact pb_184g k hx (by omega) (by omega) H
theorem pb_124 {post : Int32 → St0 → Prop} {mc ms kc ks p q c : Nat} {x y x9 z0 z1 : Int32} {a1 a2 a3 a4 a5 : Nat → Int32} (h : pb_S p q c a1 a2) (hx : x9 = if c = 3 then 0 else 1) (hz : z1 = z0) (H : post 1 ()) : wL_lawOf_124 post mc ms x y x9 z0 z1 kc ks (nI c) 0 a1 a2 a3 a4 a5 := by
  have hc := h.2.2.2.1
  unfold wL_lawOf_124
  refine br_t hz (pb_opens h (fun b3 b4 b5 k => br_t rfl (pb_partner k (br_t rfl ?_))))
  rcases hc with rfl | rfl
  · exact br_t hx (pb_160 k hx H)
  · exact br_f (by rw [hx]; decide) (pb_160 k hx H)
theorem pb_102a {post : Int32 → St0 → Prop} {mc ms kc ks p q r : Nat} {x y : Int32} {a1 a2 a3 a4 a5 : Nat → Int32} (h : pb_S p q 3 a1 a2) (hr : r < 6) (e : r = p ∨ r = q) (H : post 1 ()) : wL_lawOf_102 post mc ms x y (nI r) 0 kc ks (nI 3) 0 a1 a2 a3 a4 a5 := by
  unfold wL_lawOf_102
  rw [pb_sh r hr]
  refine pb_add2 (pb_pw r hr).1 (pb_pw r hr).2 (by rw [pb_n1 r hr]; decide) ?_ (br_t rfl (pb_124 h rfl rfl H))
  obtain ⟨hp, hq, hn, hc, g0, g1, g2, g3, g4, g5⟩ := h
  rcases e with rfl | rfl
  · rw [g3]; decide
  · rw [g4]; decide
theorem pb_102b {post : Int32 → St0 → Prop} {mc ms kc ks p q r : Nat} {x y : Int32} {a1 a2 a3 a4 a5 : Nat → Int32} (h : pb_S p q 3 a1 a2) (hr : r < 6) (e1 : r ≠ p) (e2 : r ≠ q) (h2 : a2 (2 ^ r) = -2) (H : post 1 ()) : wL_lawOf_102 post mc ms x y (nI r) 1 kc ks (nI 3) 0 a1 a2 a3 a4 a5 := by
  unfold wL_lawOf_102
  rw [pb_sh r hr]
  refine pb_add (pb_pw r hr).1 (pb_pw r hr).2 (by rw [pb_n1 r hr]; decide) (by rw [h2]; decide) (fun k hk => (pb_s1 r hr k hk).elim Or.inl (fun t => Or.inr (Or.inl t))) (by omega) (br_f (by decide) (pb_124 (p := p) (q := q) (c := 4) ?_ rfl rfl H))
  obtain ⟨hp, hq, hn, hc, g0, g1, g2, g3, g4, g5⟩ := h
  exact ⟨hp, hq, hn, Or.inr rfl, by rw [pk_un (by decide)]; exact g0, by rw [pk_un (by decide)]; exact g1, by rw [pk_un (by decide)]; exact g2, by rw [pk_un (pb_pw2 p hp r hr (Ne.symm e1)).1]; exact g3, by rw [pk_un (pb_pw2 q hq r hr (Ne.symm e2)).1]; exact g4, fun _ => ⟨r, hr, pk_us⟩⟩
theorem pb_lawOf {post : Int32 → St0 → Prop} (x y z i j : Int32) (H : post 1 ()) : wpL_lawOf post 6 175 () x y z i j := by
  obtain ⟨p, hp, ep⟩ := pb_m6 x
  obtain ⟨q, hq, hn, eq⟩ := pb_q hp y
  obtain ⟨r, hr, er⟩ := pb_m6 z
  have P := pb_pw p hp
  have Q := pb_pw q hq
  have N := pb_pw2 p hp q hq hn
  have M := fun r hr => pb_pw3 p hp q hq hn r hr
  refine ⟨by omega, by omega, 5, 168, by omega, by omega, pb_init (Nat.le_refl _) (Nat.le_refl _) (fun a ha => ⟨by decide, nm_r ep ⟨by decide, by decide, nm_r eq ?_⟩⟩)⟩
  rw [pb_sh p hp, pb_sh q hq, pb_or p hp q hq hn]
  refine pb_add (c := 0) P.1 P.2 (by rw [pb_n1 p hp]; decide) (by rw [ha _ P.2]; decide) (fun k hk => (pb_s1 p hp k hk).elim Or.inl (fun t => Or.inr (Or.inl t))) (by omega) ?_
  refine pb_add (c := 1) Q.1 Q.2 (by rw [pb_n1 q hq]; decide) (by rw [pk_un (Ne.symm N.1), ha _ Q.2]; decide) (fun k hk => (pb_s1 q hq k hk).elim Or.inl (fun t => Or.inr (Or.inl t))) (by omega) ?_
  have U1 : upd (upd a (2 ^ p) (nI 0)) (2 ^ q) (nI 1) (2 ^ p) = nI 0 := by rw [pk_un N.1, pk_us]
  have U2 : upd (upd a (2 ^ p) (nI 0)) (2 ^ q) (nI 1) (2 ^ q) = nI 1 := pk_us
  refine pb_add (c := 2) (by omega) N.2 (by rw [pb_n2 p hp q hq hn]; decide) (by rw [pk_un (by omega), pk_un (by omega), ha _ N.2]; decide) (fun k hk => ?_) (by omega) ?_
  · by_cases e1 : k = p
    · rw [e1, pb_s2a p hp q hq hn, nI_clamp (by omega), U2]
      exact Or.inr (Or.inr ⟨vp_in_nI Q.2 (by decide), by decide⟩)
    · by_cases e2 : k = q
      · rw [e2, pb_s2b p hp q hq hn, nI_clamp (by omega), U1]
        exact Or.inr (Or.inr ⟨vp_in_nI P.2 (by decide), by decide⟩)
      · exact Or.inl (pb_s2c p hp q hq hn k hk e1 e2)
  · have S : pb_S p q 3 (upd (upd (upd (fun _ => 0) 0 (nI (2 ^ p))) 1 (nI (2 ^ q))) 2 (nI (2 ^ p + 2 ^ q))) (upd (upd (upd a (2 ^ p) (nI 0)) (2 ^ q) (nI 1)) (2 ^ p + 2 ^ q) (nI 2)) :=
      ⟨hp, hq, hn, Or.inl rfl, rfl, rfl, rfl, by rw [pk_un (M p hp), U1], by rw [pk_un (M q hq), U2], fun t => absurd t (by decide)⟩
    refine br_t rfl ⟨by decide, nm_r er (pk_eq r p (fun e => pb_102a S hr (Or.inl e) H) (fun e1 => pk_eq r q (fun e => pb_102a S hr (Or.inr e) H) (fun e2 => pb_102b S hr e1 e2 ?_ H)))⟩
    rw [pk_un (M r hr), pk_un (pb_pw2 r hr q hq e2).1, pk_un (pb_pw2 r hr p hp e1).1]
    exact ha _ (pb_pw r hr).2
theorem i_vc (xs : Nat → Int32) (L : Nat) (hL : L ≤ 5) : wpL_law (fun r => r = 1) L xs :=
  pb_cell 0 hL (by omega) (fun x => pb_cell 1 hL (by omega) (fun y => pb_cell 2 hL (by omega) (fun z => pb_cell 3 hL (by omega) (fun i => pb_cell 4 hL (by omega) (fun j => ⟨6, 175, by omega, by omega, pb_lawOf x y z i j rfl⟩)))))
end
