section
/-! plain integers: a Java int and a Java long as the wrap of an Int -/
def mg_i (z : Int) : Int32 := Int32.ofInt z
def mg_l (z : Int) : Int64 := Int64.ofInt z
theorem mg_tI {z : Int} (h : -1000000 ≤ z) (h' : z ≤ 1000000) : (mg_i z).toInt = z := Int32.toInt_ofInt_of_le (by omega) (by omega)
theorem mg_tL {z : Int} (h : -1000000 ≤ z) (h' : z ≤ 1000000) : (mg_l z).toInt = z := Int64.toInt_ofInt_of_le (by omega) (by omega)
theorem mg_isub (a b : Int) : mg_i a - mg_i b = mg_i (a - b) := (Int32.ofInt_sub a b).symm
theorem mg_imul (a b : Int) : mg_i a * mg_i b = mg_i (a * b) := (Int32.ofInt_mul a b).symm
theorem mg_lsub (a b : Int) : mg_l a - mg_l b = mg_l (a - b) := (Int64.ofInt_sub a b).symm
theorem mg_ladd (a b : Int) : mg_l a + mg_l b = mg_l (a + b) := (Int64.ofInt_add a b).symm
theorem mg_lmul (a b : Int) : mg_l a * mg_l b = mg_l (a * b) := (Int64.ofInt_mul a b).symm
theorem mg_toL {z : Int} (h : -1000000 ≤ z) (h' : z ≤ 1000000) : (mg_i z).toInt64 = mg_l z := by
  rw [← Int64.ofInt_int32ToInt, mg_tI h h']
  rfl
theorem mg_ile {a b : Int} (ha : -1000000 ≤ a) (ha' : a ≤ 1000000) (hb : -1000000 ≤ b) (hb' : b ≤ 1000000) : mg_i a ≤ mg_i b ↔ a ≤ b := by
  rw [Int32.le_iff_toInt_le, mg_tI ha ha', mg_tI hb hb']
theorem mg_ilt {a b : Int} (ha : -1000000 ≤ a) (ha' : a ≤ 1000000) (hb : -1000000 ≤ b) (hb' : b ≤ 1000000) : mg_i a < mg_i b ↔ a < b := by
  rw [Int32.lt_iff_toInt_lt, mg_tI ha ha', mg_tI hb hb']
theorem mg_lle {a b : Int} (ha : -1000000 ≤ a) (ha' : a ≤ 1000000) (hb : -1000000 ≤ b) (hb' : b ≤ 1000000) : mg_l a ≤ mg_l b ↔ a ≤ b := by
  rw [Int64.le_iff_toInt_le, mg_tL ha ha', mg_tL hb hb']
theorem mg_llt {a b : Int} (ha : -1000000 ≤ a) (ha' : a ≤ 1000000) (hb : -1000000 ≤ b) (hb' : b ≤ 1000000) : mg_l a < mg_l b ↔ a < b := by
  rw [Int64.lt_iff_toInt_lt, mg_tL ha ha', mg_tL hb hb']
theorem mg_sq0 (u : Int) : 0 ≤ u * u := by
  rcases Int.le_total 0 u with h | h
  · exact Int.mul_nonneg h h
  · exact Int.mul_nonneg_of_nonpos_of_nonpos h h
theorem mg_sq {u : Int} (h : -100 ≤ u) (h' : u ≤ 100) : 0 ≤ u * u ∧ u * u ≤ 10000 := by
  have h1 : 0 ≤ (100 - u) * (100 + u) := Int.mul_nonneg (by omega) (by omega)
  have h2 : (100 - u) * (100 + u) = 10000 - u * u := by grind
  have h3 := mg_sq0 u
  omega
/-- who lies less than half as far from s as t does lies nearer to s than to t -/
theorem mg_far {a s t : Int} (h : 4 * ((a - s) * (a - s)) < (s - t) * (s - t)) : (a - s) * (a - s) ≤ (a - t) * (a - t) := by
  have h0 := mg_sq0 ((a - s) + (a - t))
  have e : ((a - s) + (a - t)) * ((a - s) + (a - t)) + (s - t) * (s - t) = 2 * ((a - s) * (a - s)) + 2 * ((a - t) * (a - t)) := by grind
  generalize ((a - s) + (a - t)) * ((a - s) + (a - t)) = q at h0 e
  generalize (a - s) * (a - s) = u at h e ⊢
  generalize (a - t) * (a - t) = v at e ⊢
  generalize (s - t) * (s - t) = w at h e
  omega
theorem mg_nI {m : Nat} (h : m < 1000) : nI m = mg_i (m : Int) := by
  apply Int32.toInt.inj
  rw [nI_toInt (by omega), mg_tI (by omega) (by omega)]
/-- what the law makes of a cell of the script -/
theorem mg_cell (p : Int32) : ∃ z : Int, -50 ≤ z ∧ z ≤ 50 ∧ ((p &&& 255) - (p &&& 255) / 101 * 101) - 50 = mg_i z := by
  obtain ⟨j, hj, e⟩ := pk_andE p (m := 255) 8 (by decide)
  have r : nI j - nI j / 101 * 101 = nI (j % 101) := pk_rem (a := j) (d := 101) (by omega) (by omega) (by omega)
  refine ⟨((j % 101 : Nat) : Int) - 50, by omega, by omega, ?_⟩
  rw [e, r, mg_nI (by omega)]
  exact mg_isub _ 50
theorem mg_inLo {z : Int} (h : -50 ≤ z) (h' : z ≤ 50) : ¬ mg_i z < -50 := by
  have := mg_ilt (a := z) (b := -50) (by omega) (by omega) (by omega) (by omega)
  intro g
  have g' : mg_i z < mg_i (-50) := g
  rw [this] at g'
  omega
theorem mg_inHi {z : Int} (h : -50 ≤ z) (h' : z ≤ 50) : ¬ 50 < mg_i z := by
  have := mg_ilt (a := 50) (b := z) (by omega) (by omega) (by omega) (by omega)
  intro g
  have g' : mg_i 50 < mg_i z := g
  rw [this] at g'
  omega
/-- the law's own comparison -/
theorem mg_cmp {a s t : Int} (ha : -50 ≤ a) (ha' : a ≤ 50) (hs : -50 ≤ s) (hs' : s ≤ 50) (ht : -50 ≤ t) (ht' : t ≤ 50) :
    (mg_i a - mg_i s) * (mg_i a - mg_i s) ≤ (mg_i a - mg_i t) * (mg_i a - mg_i t) ↔ (a - s) * (a - s) ≤ (a - t) * (a - t) := by
  rw [mg_isub, mg_isub, mg_imul, mg_imul]
  have h1 := mg_sq (u := a - s) (by omega) (by omega)
  have h2 := mg_sq (u := a - t) (by omega) (by omega)
  exact mg_ile (by omega) (by omega) (by omega) (by omega)
/-- measure: the terms as printed -/
theorem mg_dx {a s : Int} (ha : -50 ≤ a) (ha' : a ≤ 50) (hs : -50 ≤ s) (hs' : s ≤ 50) : ((1 : Int32).toInt64 * (mg_i a).toInt64) - (mg_i s).toInt64 = mg_l (a - s) := by
  have h1 : (1 : Int32).toInt64 = mg_l 1 := by decide
  rw [h1, mg_toL (by omega) (by omega), mg_toL (by omega) (by omega), mg_lmul, mg_lsub, Int.one_mul]
theorem mg_dx2 {s t : Int} (hs : -50 ≤ s) (hs' : s ≤ 50) (ht : -50 ≤ t) (ht' : t ≤ 50) : ((mg_i s).toInt64 * (1 : Int32).toInt64) - ((mg_i t).toInt64 * (1 : Int32).toInt64) = mg_l (s - t) := by
  have h1 : (1 : Int32).toInt64 = mg_l 1 := by decide
  rw [h1, mg_toL (by omega) (by omega), mg_toL (by omega) (by omega), mg_lmul, mg_lmul, mg_lsub, Int.mul_one, Int.mul_one]
theorem mg_up (u : Int) : mg_l u * mg_l u + (0 : Int64) * (0 : Int64) = mg_l (u * u) := by
  have h0 : (0 : Int64) * (0 : Int64) = mg_l 0 := by decide
  rw [h0, mg_lmul, mg_ladd, Int.add_zero]
theorem mg_l1 (u : Int) : mg_l u * mg_l 1 = mg_l u := by
  rw [mg_lmul, Int.mul_one]
theorem mg_fill {f s : Nat → Int32} {i k : Nat} {x : Int32} (hk : k = i) (h : ∀ j, j < i → s j = f j) (hx : x = f i) : ∀ j, j < i + 1 → upd s k x j = f j := by
  intro j hj
  rw [hk]
  by_cases e : j = i
  · rw [e, pk_us, hx]
  · rw [pk_un e]
    exact h j (by omega)
end
section
/-! reset, the constructor, add, seed -/
section
variable {f0 f1 : Int32} {f2 f3 : Int64} {a1 a2 a3 a4 a5 a6 a7 a8 a9 a10 a11 a12 : Nat → Int32}
theorem mg_r53 {post : St2 → Prop} (H : ∀ b9 : Nat → Int32, (∀ j, j < 24 → b9 j = -1) → post (f0, f1, f2, f3, a1, a2, a3, a4, a5, a6, a7, a8, b9, a10, a11, a12)) :
    ∃ n, wX_reset_53 post f0 f1 f2 f3 n 0 a1 a2 a3 a4 a5 a6 a7 a8 a9 a10 a11 a12 :=
  pk_loop (fun n i s => wX_reset_53 post f0 f1 f2 f3 n (nI i) a1 a2 a3 a4 a5 a6 a7 a8 s a10 a11 a12) (fun i s => ∀ j, j < i → s j = -1) 24 0 a9 (by omega) (fun j hj => absurd hj (by omega))
    (fun n s h => pk_le 24 24 (fun _ => H s h) (fun z => absurd z (by omega)))
    (fun n i s hi h hw => pk_le 24 i (fun z => absurd z (by omega)) (fun _ => ⟨pk_in i 24 hi, nm_e (nm_r (nI_1 i) (hw _ (mg_fill (f := fun _ => -1) (nI_clamp (by omega)) h rfl)))⟩))
theorem mg_reset {post : St2 → Prop} (H : ∀ b5 b6 b7 b8 b9 : Nat → Int32, (∀ j, j < 4 → b5 j = a3 j) → (∀ j, j < 4 → b6 j = a4 j) → (∀ j, j < 4 → b7 j = 1) → (∀ j, j < 24 → b9 j = -1) → post (f0, f1, f2, f3, a1, a2, a3, a4, b5, b6, b7, b8, b9, a10, a11, a12)) :
    wpX_reset post (f0, f1, f2, f3, a1, a2, a3, a4, a5, a6, a7, a8, a9, a10, a11, a12) :=
  pk_loop (σ := (Nat → Int32) × (Nat → Int32) × (Nat → Int32) × (Nat → Int32)) (fun n i s => wX_reset_2 post f0 f1 f2 f3 n (nI i) a1 a2 a3 a4 s.1 s.2.1 s.2.2.1 s.2.2.2 a9 a10 a11 a12)
    (fun i s => (∀ j, j < i → s.1 j = a3 j) ∧ (∀ j, j < i → s.2.1 j = a4 j) ∧ (∀ j, j < i → s.2.2.1 j = 1)) 4 0 (a5, a6, a7, a8) (by omega)
    ⟨fun j hj => absurd hj (by omega), fun j hj => absurd hj (by omega), fun j hj => absurd hj (by omega)⟩
    (fun n s h => pk_le 4 4 (fun _ => mg_r53 (fun b9 h9 => H _ _ _ _ b9 h.1 h.2.1 h.2.2 h9)) (fun z => absurd z (by omega)))
    (fun n i s hi h hw => pk_le 4 i (fun z => absurd z (by omega)) (fun _ => ⟨pk_in i 4 hi, pk_in i 4 hi, nm_e ⟨pk_in i 4 hi, pk_in i 4 hi, nm_e ⟨pk_in i 4 hi, nm_e ⟨pk_in i 4 hi, nm_e (nm_r (nI_1 i) (hw (_, _, _, _)
      ⟨mg_fill (f := a3) (nI_clamp (by omega)) h.1 (by rw [nI_clamp (by omega)]), mg_fill (f := a4) (nI_clamp (by omega)) h.2.1 (by rw [nI_clamp (by omega)]), mg_fill (f := fun _ => 1) (nI_clamp (by omega)) h.2.2 rfl⟩))⟩⟩⟩⟩))
theorem mg_init {post : St2 → Prop} (H : ∀ b5 b6 b7 b8 b9 : Nat → Int32, post (0, 2, 0, 0, (fun _ => 0), (fun _ => 0), (fun _ => 0), (fun _ => 0), b5, b6, b7, b8, b9, (fun _ => 0), (fun _ => 0), (fun _ => 0))) :
    wpX_init post 12 108 (0, 0, 0, 0) :=
  ⟨by omega, by omega, by omega, by omega, by omega, by omega, by omega, by omega, by omega, by omega, by omega, by omega, by omega, by omega, by omega, by omega, by omega, by omega, by omega, by omega, by omega, by omega, by omega, by omega,
    mg_reset (fun b5 b6 b7 b8 b9 _ _ _ _ => H b5 b6 b7 b8 b9)⟩
theorem mg_inR {post : Int32 → Prop} {p : Int32} (h1 : ¬ p < -50) (h2 : ¬ 50 < p) (hp : post 1) : wpX_inRange post () p := br_f h1 (br_f h2 hp)
theorem mg_add {post : Int32 → St2 → Prop} (c : Nat) {p0 p1 : Int32} (hc : c < 24) (h1 : ¬ p0 < -50) (h2 : ¬ 50 < p0) (h3 : ¬ p1 < -50) (h4 : ¬ 50 < p1)
    (H : ∀ b5 b6 b7 b8 b9 : Nat → Int32, post (nI (c + 1)) (nI (c + 1), f1, f2, f3, upd a1 c p0, upd a2 c p1, a3, a4, b5, b6, b7, b8, b9, a10, a11, a12)) :
    wpX_add post (nI c, f1, f2, f3, a1, a2, a3, a4, a5, a6, a7, a8, a9, a10, a11, a12) p0 p1 := by
  unfold wpX_add
  refine mg_inR h1 h2 (br_f (by decide) (mg_inR h3 h4 (br_f (by decide) ?_)))
  exact (pk_lt c 24
    (fun _ => ⟨pk_in c 24 hc, nm_r (e' := upd a1 c p0) (by rw [nI_clamp (by omega)]) ⟨pk_in c 24 hc, nm_r (e' := upd a2 c p1) (by rw [nI_clamp (by omega)]) (nm_r (nI_1 c) (mg_reset (fun b5 b6 b7 b8 b9 _ _ _ _ => H b5 b6 b7 b8 b9)))⟩⟩)
    (fun z => absurd z (by omega)))
theorem mg_seed {post : Int32 → St2 → Prop} (g : Nat) {p1 p2 : Int32} (hg : g < 4) (h1 : ¬ p1 < -50) (h2 : ¬ 50 < p1) (h3 : ¬ p2 < -50) (h4 : ¬ 50 < p2)
    (H : ∀ b5 b6 b7 b8 b9 : Nat → Int32, (∀ j, j < 4 → b5 j = upd a3 g p1 j) → (∀ j, j < 4 → b6 j = upd a4 g p2 j) → (∀ j, j < 4 → b7 j = 1) → (∀ j, j < 24 → b9 j = -1) →
      post 0 (f0, f1, f2, f3, a1, a2, upd a3 g p1, upd a4 g p2, b5, b6, b7, b8, b9, a10, a11, a12)) :
    wpX_seed post (f0, f1, f2, f3, a1, a2, a3, a4, a5, a6, a7, a8, a9, a10, a11, a12) (nI g) p1 p2 :=
  br_f (nI_pos (by omega)) (pk_lt 3 g (fun z => absurd z (by omega)) (fun _ => mg_inR h1 h2 (br_f (by decide) (mg_inR h3 h4 (br_f (by decide)
    ⟨pk_in g 4 hg, nm_r (e' := upd a3 g p1) (by rw [nI_clamp (by omega)]) ⟨pk_in g 4 hg, nm_r (e' := upd a4 g p2) (by rw [nI_clamp (by omega)]) (mg_reset (fun b5 b6 b7 b8 b9 e5 e6 e7 e9 => H b5 b6 b7 b8 b9 e5 e6 e7 e9))⟩⟩)))))
end
end
section
/-! measure, measureMiddles, nearestGroup -/
section
variable {f0 f1 : Int32} {f2 f3 : Int64} {a1 a2 a3 a4 a5 a6 a7 a8 a9 a10 a11 a12 : Nat → Int32} {a s t : Int}
theorem mg_measure {post : St2 → Prop} (p g : Nat) (hp : p < 24) (hg : g < 4) (ha : -50 ≤ a) (ha' : a ≤ 50) (hs : -50 ≤ s) (hs' : s ≤ 50)
    (e1 : a1 p = mg_i a) (e2 : a2 p = 3) (e5 : a5 g = mg_i s) (e6 : a6 g = 3) (e7 : a7 g = 1)
    (H : post (f0, f1, mg_l ((a - s) * (a - s)), mg_l 1, a1, a2, a3, a4, a5, a6, a7, a8, a9, a10, a11, a12)) :
    wpX_measure post (f0, f1, f2, f3, a1, a2, a3, a4, a5, a6, a7, a8, a9, a10, a11, a12) (nI p) (nI g) := by
  have kp : (nI p).toNatClampNeg = p := nI_clamp (by omega)
  have kg : (nI g).toNatClampNeg = g := nI_clamp (by omega)
  unfold wpX_measure
  refine ⟨pk_in g 4 hg, pk_in p 24 hp, pk_in g 4 hg, nm_r (e' := mg_l (a - s)) ?_ ⟨pk_in g 4 hg, pk_in p 24 hp, pk_in g 4 hg, nm_r (e' := 0) ?_ (nm_r (mg_up (a - s)) ⟨pk_in g 4 hg, pk_in g 4 hg, nm_r (e' := mg_l 1) ?_ H⟩)⟩⟩
  · rw [kp, kg, e1, e5, e7]
    exact mg_dx ha ha' hs hs'
  · rw [kp, kg, e2, e6, e7]
    decide
  · rw [kg, e7]
    decide
theorem mg_middles {post : St2 → Prop} (hs : -50 ≤ s) (hs' : s ≤ 50) (ht : -50 ≤ t) (ht' : t ≤ 50)
    (e50 : a5 0 = mg_i s) (e51 : a5 1 = mg_i t) (e60 : a6 0 = 3) (e61 : a6 1 = 3) (e70 : a7 0 = 1) (e71 : a7 1 = 1)
    (H : post (f0, f1, mg_l ((s - t) * (s - t)), mg_l 1, a1, a2, a3, a4, a5, a6, a7, a8, a9, a10, a11, a12)) :
    wpX_measureMiddles post (f0, f1, f2, f3, a1, a2, a3, a4, a5, a6, a7, a8, a9, a10, a11, a12) (nI 0) (nI 1) := by
  have k0 : (nI 0).toNatClampNeg = 0 := nI_clamp (by omega)
  have k1 : (nI 1).toNatClampNeg = 1 := nI_clamp (by omega)
  have i0 : vp_in (nI 0) 4 := pk_in 0 4 (by omega)
  have i1 : vp_in (nI 1) 4 := pk_in 1 4 (by omega)
  unfold wpX_measureMiddles
  refine ⟨i0, i1, i1, i0, nm_r (e' := mg_l (s - t)) ?_ ⟨i0, i1, i1, i0, nm_r (e' := 0) ?_ (nm_r (mg_up (s - t)) ⟨i0, i1, nm_r (e' := mg_l 1) ?_ (nm_r (mg_l1 1) H)⟩)⟩⟩
  · rw [k0, k1, e50, e51, e70, e71]
    exact mg_dx2 hs hs' ht ht'
  · rw [k0, k1, e60, e61, e70, e71]
    decide
  · rw [k0, k1, e70, e71]
    decide
/-- farBeyond's answer is no more than what its caller needs: 1 only if s is not farther than t -/
theorem mg_farB {post : Int32 → St2 → Prop} (ha : -50 ≤ a) (ha' : a ≤ 50) (hs : -50 ≤ s) (hs' : s ≤ 50) (ht : -50 ≤ t) (ht' : t ≤ 50)
    (e50 : a5 0 = mg_i s) (e51 : a5 1 = mg_i t) (e60 : a6 0 = 3) (e61 : a6 1 = 3) (e70 : a7 0 = 1) (e71 : a7 1 = 1)
    (H0 : ∀ u l, post 0 (f0, f1, u, l, a1, a2, a3, a4, a5, a6, a7, a8, a9, a10, a11, a12))
    (H1 : ∀ u l, (a - s) * (a - s) ≤ (a - t) * (a - t) → post 1 (f0, f1, u, l, a1, a2, a3, a4, a5, a6, a7, a8, a9, a10, a11, a12)) :
    wpX_farBeyond post (f0, f1, f2, f3, a1, a2, a3, a4, a5, a6, a7, a8, a9, a10, a11, a12) (nI 0) (nI 1) (mg_l ((a - s) * (a - s))) (mg_l 1) := by
  unfold wpX_farBeyond
  refine mg_middles hs hs' ht ht' e50 e51 e60 e61 e70 e71 (br_c (fun _ => H0 _ _) (fun h => H1 _ _ (mg_far (Int.not_le.mp (fun q => h ?_)))))
  have b1 := mg_sq (u := a - s) (by omega) (by omega)
  have b2 := mg_sq (u := s - t) (by omega) (by omega)
  have e4 : (4 : Int64) = mg_l 4 := by decide
  rw [mg_l1, e4, mg_lmul, mg_l1, mg_lle (by omega) (by omega) (by omega) (by omega)]
  exact q
theorem mg_ngx {post : Int32 → St2 → Prop} {x1 x8 r : Int32} {x4 x6 : Int64} (n : Nat) (H : post r (f0, 2, f2, f3, a1, a2, a3, a4, a5, a6, a7, a8, a9, a10, a11, a12)) :
    wX_nearestGroup_66 post x1 x8 (n + 1) r x4 x6 (nI 2) f0 2 f2 f3 a1 a2 a3 a4 a5 a6 a7 a8 a9 a10 a11 a12 :=
  pk_le 2 2 (fun _ => H) (fun z => absurd z (by omega))
/-- the group of a point at a, the middles at s and t: 1 if t is nearer, else 0 -/
def mg_R (a s t : Int) (r : Int32) : Prop := (r = 0 ∧ (a - s) * (a - s) ≤ (a - t) * (a - t)) ∨ (r = 1 ∧ ¬ (a - s) * (a - s) ≤ (a - t) * (a - t))
theorem mg_R01 {r : Int32} (h : mg_R a s t r) : r = 0 ∨ r = 1 := h.elim (fun x => Or.inl x.1) (fun x => Or.inr x.1)
theorem mg_ng {post : Int32 → St2 → Prop} (p : Nat) (hp : p < 24) (ha : -50 ≤ a) (ha' : a ≤ 50) (hs : -50 ≤ s) (hs' : s ≤ 50) (ht : -50 ≤ t) (ht' : t ≤ 50)
    (e1 : a1 p = mg_i a) (e2 : a2 p = 3) (e50 : a5 0 = mg_i s) (e51 : a5 1 = mg_i t) (e60 : a6 0 = 3) (e61 : a6 1 = 3) (e70 : a7 0 = 1) (e71 : a7 1 = 1) (e9 : a9 p = -1)
    (H : ∀ r u l, mg_R a s t r → post r (f0, 2, u, l, a1, a2, a3, a4, a5, a6, a7, a8, a9, a10, a11, a12)) :
    wpX_nearestGroup post (f0, 2, f2, f3, a1, a2, a3, a4, a5, a6, a7, a8, a9, a10, a11, a12) (nI p) := by
  have kp : (nI p).toNatClampNeg = p := nI_clamp (by omega)
  have b1 := mg_sq (u := a - s) (by omega) (by omega)
  have b2 := mg_sq (u := a - t) (by omega) (by omega)
  have H0 : ∀ u l, (a - s) * (a - s) ≤ (a - t) * (a - t) → post 0 (f0, 2, u, l, a1, a2, a3, a4, a5, a6, a7, a8, a9, a10, a11, a12) := fun u l h => H 0 u l (Or.inl ⟨rfl, h⟩)
  have H1 : ∀ u l, ¬ (a - s) * (a - s) ≤ (a - t) * (a - t) → post 1 (f0, 2, u, l, a1, a2, a3, a4, a5, a6, a7, a8, a9, a10, a11, a12) := fun u l h => H 1 u l (Or.inr ⟨rfl, h⟩)
  unfold wpX_nearestGroup
  refine ⟨pk_in p 24 hp, nm_r (e' := -1) (by rw [kp]; exact e9) (br_t (by decide) ?_)⟩
  unfold wX_nearestGroup_19 wX_nearestGroup_24
  refine mg_measure p 0 hp (by omega) ha ha' hs hs' e1 e2 e50 e60 e70 (br_t (by decide) ⟨0 + 1 + 1 + 1, ?_⟩)
  refine pk_le 2 0 (fun z => absurd z (by omega)) (fun _ => br_t rfl ?_)
  unfold wX_nearestGroup_94 wX_nearestGroup_95
  refine br_t rfl (nm_r (e' := nI 1) (by decide) ?_)
  refine pk_le 2 1 (fun z => absurd z (by omega)) (fun _ => br_t rfl ?_)
  unfold wX_nearestGroup_94 wX_nearestGroup_95
  refine br_f (by decide) (br_t rfl ?_)
  refine mg_farB ha ha' hs hs' ht ht' e50 e51 e60 e61 e70 e71 (fun u l => br_t rfl ?_) (fun u l h => br_f (by decide) (nm_r (e' := nI 2) (by decide) (mg_ngx 0 (H0 _ _ h))))
  refine mg_measure p 1 hp (by omega) ha ha' ht ht' e1 e2 e51 e61 e71 (nm_r (mg_l1 _) (nm_r (mg_l1 _) ?_))
  refine br_c (fun h => ?_) (fun h => ?_)
  · rw [mg_llt (by omega) (by omega) (by omega) (by omega)] at h
    unfold wX_nearestGroup_169
    exact nm_r (e' := nI 2) (by decide) (mg_ngx 0 (H1 _ _ (by omega)))
  · rw [mg_llt (by omega) (by omega) (by omega) (by omega)] at h
    have h' : (a - s) * (a - s) ≤ (a - t) * (a - t) := Int.not_lt.mp h
    exact br_c (fun _ => pk_le 0 1 (fun _ => nm_r (e' := nI 2) (by decide) (mg_ngx 0 (H0 _ _ h'))) (fun z => absurd z (by omega))) (fun _ => nm_r (e' := nI 2) (by decide) (mg_ngx 0 (H0 _ _ h')))
end
end
section
/-! moveMiddles, round -/
section
variable {f0 f1 : Int32} {f2 f3 : Int64} {a1 a2 a3 a4 a5 a6 a7 a8 a9 a10 a11 a12 : Nat → Int32} {a b s t : Int}
theorem mg_211 {post : St2 → Prop} {J : Int32 → (Nat → Int32) → (Nat → Int32) → (Nat → Int32) → (Nat → Int32) → (Nat → Int32) → (Nat → Int32) → (Nat → Int32) → (Nat → Int32) → (Nat → Int32) → (Nat → Int32) → (Nat → Int32) → (Nat → Int32) → Prop}
    {z : Int32} (i : Nat) (hi : i < 4) (H : ∀ b5 b6 b7 b8, J (nI (i + 1)) a1 a2 a3 a4 b5 b6 b7 b8 a9 a10 a11 a12) :
    wX_moveMiddles_211 post J (nI i) z (nI i) f0 f1 f2 f3 a1 a2 a3 a4 a5 a6 a7 a8 a9 a10 a11 a12 := by
  have k : vp_in (nI i) 4 := pk_in i 4 hi
  unfold wX_moveMiddles_211
  exact ⟨k, nm_e ⟨k, k, nm_e ⟨k, k, nm_e ⟨k, k, nm_e (nm_r (nI_1 i) (H _ _ _ _))⟩⟩⟩⟩
theorem mg_192 {post : St2 → Prop} {J : Int32 → (Nat → Int32) → (Nat → Int32) → (Nat → Int32) → (Nat → Int32) → (Nat → Int32) → (Nat → Int32) → (Nat → Int32) → (Nat → Int32) → (Nat → Int32) → (Nat → Int32) → (Nat → Int32) → (Nat → Int32) → Prop}
    {x2 z : Int32} (i : Nat) (hi : i < 4) (H : ∀ b5 b6 b7 b8, J (nI (i + 1)) a1 a2 a3 a4 b5 b6 b7 b8 a9 a10 a11 a12) :
    wX_moveMiddles_192 post J (nI i) x2 z f0 f1 f2 f3 a1 a2 a3 a4 a5 a6 a7 a8 a9 a10 a11 a12 := by
  unfold wX_moveMiddles_192 wX_moveMiddles_206
  exact br_c (fun _ => mg_211 i hi H) (fun _ => br_c (fun _ => mg_211 i hi H) (fun _ => mg_211 i hi H))
theorem mg_157 {post : St2 → Prop} {J : Int32 → (Nat → Int32) → (Nat → Int32) → (Nat → Int32) → (Nat → Int32) → (Nat → Int32) → (Nat → Int32) → (Nat → Int32) → (Nat → Int32) → (Nat → Int32) → (Nat → Int32) → (Nat → Int32) → (Nat → Int32) → Prop}
    {z : Int32} (i : Nat) (hi : i < 4) (H : ∀ b5 b6 b7 b8, J (nI (i + 1)) a1 a2 a3 a4 b5 b6 b7 b8 a9 a10 a11 a12) :
    wX_moveMiddles_157 post J (nI i) z f0 f1 f2 f3 a1 a2 a3 a4 a5 a6 a7 a8 a9 a10 a11 a12 := by
  have k : vp_in (nI i) 4 := pk_in i 4 hi
  unfold wX_moveMiddles_157
  exact ⟨k, k, k, k, br_c (fun _ => mg_192 i hi H) (fun _ => mg_192 i hi H)⟩
theorem mg_99 {post : St2 → Prop} (H : ∀ b5 b6 b7 b8 : Nat → Int32, post (f0, 2, f2, f3, a1, a2, a3, a4, b5, b6, b7, b8, a9, a10, a11, a12)) :
    ∃ n, wX_moveMiddles_99 post f0 2 f2 f3 n 0 a1 a2 a3 a4 a5 a6 a7 a8 a9 a10 a11 a12 :=
  pk_loop (σ := (Nat → Int32) × (Nat → Int32) × (Nat → Int32) × (Nat → Int32)) (fun n i s => wX_moveMiddles_99 post f0 2 f2 f3 n (nI i) a1 a2 a3 a4 s.1 s.2.1 s.2.2.1 s.2.2.2 a9 a10 a11 a12)
    (fun _ _ => True) 2 0 (a5, a6, a7, a8) (by omega) trivial
    (fun n s _ => pk_le 2 2 (fun _ => H _ _ _ _) (fun z => absurd z (by omega)))
    (fun n i s hi _ hw =>
      have k : vp_in (nI i) 4 := pk_in i 4 (by omega)
      pk_le 2 i (fun z => absurd z (by omega)) (fun _ => ⟨k, nm_e ⟨k, br_c (fun _ => nm_r (nI_1 i) (hw (s.1, s.2.1, s.2.2.1, upd s.2.2.2 (nI i).toNatClampNeg 0) trivial))
        (fun _ => ⟨k, k, k, k, br_c (fun _ => mg_157 i (by omega) (fun b5 b6 b7 b8 => hw (b5, b6, b7, b8) trivial)) (fun _ => mg_157 i (by omega) (fun b5 b6 b7 b8 => hw (b5, b6, b7, b8) trivial))⟩)⟩⟩))
theorem mg_36 {post : St2 → Prop} (h9 : ∀ i, i < 2 → vp_in (a9 i) 4) (H : ∀ b5 b6 b7 b8 b10 b11 b12 : Nat → Int32, post (2, 2, f2, f3, a1, a2, a3, a4, b5, b6, b7, b8, a9, b10, b11, b12)) :
    ∃ n, wX_moveMiddles_36 post 2 2 f2 f3 n 0 a1 a2 a3 a4 a5 a6 a7 a8 a9 a10 a11 a12 :=
  pk_loop (σ := (Nat → Int32) × (Nat → Int32) × (Nat → Int32)) (fun n i s => wX_moveMiddles_36 post 2 2 f2 f3 n (nI i) a1 a2 a3 a4 a5 a6 a7 a8 a9 s.1 s.2.1 s.2.2)
    (fun _ _ => True) 2 0 (a10, a11, a12) (by omega) trivial
    (fun n s _ => pk_le 2 2 (fun _ => mg_99 (fun _ _ _ _ => H _ _ _ _ _ _ _)) (fun z => absurd z (by omega)))
    (fun n i s hi _ hw =>
      have k : vp_in (nI i) 24 := pk_in i 24 (by omega)
      have v : vp_in (a9 i) 4 := h9 i hi
      pk_le 2 i (fun z => absurd z (by omega)) (fun _ => ⟨k, nm_r (e' := a9 i) (by rw [nI_clamp (by omega)]) ⟨v, k, v, nm_e ⟨v, k, v, nm_e ⟨v, v, nm_e (nm_r (nI_1 i) (hw (_, _, _) trivial))⟩⟩⟩⟩))
theorem mg_move {post : St2 → Prop} (h9 : ∀ i, i < 2 → vp_in (a9 i) 4) (H : ∀ b5 b6 b7 b8 b10 b11 b12 : Nat → Int32, post (2, 2, f2, f3, a1, a2, a3, a4, b5, b6, b7, b8, a9, b10, b11, b12)) :
    wpX_moveMiddles post (2, 2, f2, f3, a1, a2, a3, a4, a5, a6, a7, a8, a9, a10, a11, a12) :=
  pk_loop (σ := (Nat → Int32) × (Nat → Int32) × (Nat → Int32)) (fun n i s => wX_moveMiddles_2 post 2 2 f2 f3 n (nI i) a1 a2 a3 a4 a5 a6 a7 a8 a9 s.1 s.2.1 s.2.2)
    (fun _ _ => True) 4 0 (a10, a11, a12) (by omega) trivial
    (fun n s _ => pk_le 4 4 (fun _ => mg_36 h9 H) (fun z => absurd z (by omega)))
    (fun n i s hi _ hw =>
      have k : vp_in (nI i) 4 := pk_in i 4 hi
      pk_le 4 i (fun z => absurd z (by omega)) (fun _ => ⟨k, nm_e ⟨k, nm_e ⟨k, nm_e (nm_r (nI_1 i) (hw (_, _, _) trivial))⟩⟩⟩))
theorem mg_rstep {post : Int32 → St2 → Prop} (n p : Nat) {x x' : Int32} (hx : x + 1 = x') (hp : p < 2) (ha : -50 ≤ a) (ha' : a ≤ 50) (hs : -50 ≤ s) (hs' : s ≤ 50) (ht : -50 ≤ t) (ht' : t ≤ 50)
    (e1 : a1 p = mg_i a) (e2 : a2 p = 3) (e50 : a5 0 = mg_i s) (e51 : a5 1 = mg_i t) (e60 : a6 0 = 3) (e61 : a6 1 = 3) (e70 : a7 0 = 1) (e71 : a7 1 = 1) (e9 : a9 p = -1)
    (H : ∀ r u l, mg_R a s t r → wX_round_4 post n x' (nI (p + 1)) 2 2 u l a1 a2 a3 a4 a5 a6 a7 a8 (upd a9 p r) a10 a11 a12) :
    wX_round_4 post (n + 1) x (nI p) 2 2 f2 f3 a1 a2 a3 a4 a5 a6 a7 a8 a9 a10 a11 a12 := by
  have kp : (nI p).toNatClampNeg = p := nI_clamp (by omega)
  refine pk_le 2 p (fun z => absurd z (by omega)) (fun _ => ?_)
  refine mg_ng p (by omega) ha ha' hs hs' ht ht' e1 e2 e50 e51 e60 e61 e70 e71 e9 (fun r u l hr => ⟨pk_in p 24 (by omega), br_f ?_ ?_⟩)
  · rw [kp, e9]
    rcases mg_R01 hr with h | h
    · rw [h]
      decide
    · rw [h]
      decide
  · unfold wX_round_34
    exact nm_r hx ⟨pk_in p 24 (by omega), nm_r (e' := upd a9 p r) (by rw [kp]) (nm_r (nI_1 p) (H r u l hr))⟩
theorem mg_rin {r : Int32} (h : mg_R a s t r) : vp_in r 4 := by
  rcases mg_R01 h with e | e
  · exact pk_in 0 4 (by omega) e
  · exact pk_in 1 4 (by omega) e
theorem mg_round {post : Int32 → St2 → Prop} (ha : -50 ≤ a) (ha' : a ≤ 50) (hb : -50 ≤ b) (hb' : b ≤ 50) (hs : -50 ≤ s) (hs' : s ≤ 50) (ht : -50 ≤ t) (ht' : t ≤ 50)
    (e10 : a1 0 = mg_i a) (e11 : a1 1 = mg_i b) (e20 : a2 0 = 3) (e21 : a2 1 = 3) (e50 : a5 0 = mg_i s) (e51 : a5 1 = mg_i t) (e60 : a6 0 = 3) (e61 : a6 1 = 3) (e70 : a7 0 = 1) (e71 : a7 1 = 1) (e90 : a9 0 = -1) (e91 : a9 1 = -1)
    (H : ∀ (r0 r1 : Int32) (u l : Int64) (b5 b6 b7 b8 b9 b10 b11 b12 : Nat → Int32), mg_R a s t r0 → mg_R b s t r1 → b9 0 = r0 → b9 1 = r1 → post 2 (2, 2, u, l, a1, a2, a3, a4, b5, b6, b7, b8, b9, b10, b11, b12)) :
    wpX_round post (2, 2, f2, f3, a1, a2, a3, a4, a5, a6, a7, a8, a9, a10, a11, a12) := by
  unfold wpX_round
  refine ⟨0 + 1 + 1 + 1, ?_⟩
  refine mg_rstep (0 + 1 + 1) 0 (x := 0) (x' := 1) (by decide) (by omega) ha ha' hs hs' ht ht' e10 e20 e50 e51 e60 e61 e70 e71 e90 (fun r0 u l h0 => ?_)
  refine mg_rstep (0 + 1) 1 (x := 1) (x' := 2) (by decide) (by omega) hb hb' hs hs' ht ht' e11 e21 e50 e51 e60 e61 e70 e71 (by rw [pk_un (by omega)]; exact e91) (fun r1 u' l' h1 => ?_)
  have g0 : upd (upd a9 0 r0) 1 r1 0 = r0 := by
    rw [pk_un (by omega), pk_us]
  have g1 : upd (upd a9 0 r0) 1 r1 1 = r1 := pk_us
  refine pk_le 2 2 (fun _ => ?_) (fun z => absurd z (by omega))
  refine mg_move (fun i hi => ?_) (fun b5 b6 b7 b8 b10 b11 b12 => H r0 r1 u' l' b5 b6 b7 b8 _ b10 b11 b12 h0 h1 g0 g1)
  rcases (by omega : i = 0 ∨ i = 1) with e | e
  · rw [e, g0]
    exact mg_rin h0
  · rw [e, g1]
    exact mg_rin h1
end
end
section
/-! group, size, sum, near over two points -/
section
variable {f1 : Int32} {f2 f3 : Int64} {a1 a2 a3 a4 a5 a6 a7 a8 a9 a10 a11 a12 : Nat → Int32} {r0 r1 : Int32}
theorem mg_group {post : Int32 → Prop} (p : Nat) (hp : p < 2) (H : post (a9 p)) :
    wpX_group post (2, f1, f2, f3, a1, a2, a3, a4, a5, a6, a7, a8, a9, a10, a11, a12) (nI p) := by
  unfold wpX_group
  refine br_f (nI_pos (by omega)) (pk_lt p 2 (fun _ => ⟨pk_in p 24 (by omega), ?_⟩) (fun z => absurd z (by omega)))
  rw [nI_clamp (by omega)]
  exact H
theorem mg_sz {post : Int32 → Prop} (n p : Nat) (hp : p < 2) {x r : Int32} (e : a9 p = r) (hr : r = 0 ∨ r = 1)
    (H : wX_size_4 post 1 2 f1 f2 f3 a1 a2 a3 a4 a5 a6 a7 a8 a9 a10 a11 a12 n (x + r) (nI (p + 1))) :
    wX_size_4 post 1 2 f1 f2 f3 a1 a2 a3 a4 a5 a6 a7 a8 a9 a10 a11 a12 (n + 1) x (nI p) := by
  refine pk_le 2 p (fun z => absurd z (by omega)) (fun _ => br_f (by decide) ⟨pk_in p 24 (by omega), ?_⟩)
  rw [nI_clamp (by omega), e]
  rcases hr with h | h
  · subst h
    exact br_f (by decide) (nm_e (nm_r (nI_1 p) H))
  · subst h
    exact br_t rfl (nm_e (nm_r (nI_1 p) H))
theorem mg_size {post : Int32 → Prop} (e0 : a9 0 = r0) (e1 : a9 1 = r1) (h0 : r0 = 0 ∨ r0 = 1) (h1 : r1 = 0 ∨ r1 = 1) (H : post (r0 + r1)) :
    wpX_size post (2, f1, f2, f3, a1, a2, a3, a4, a5, a6, a7, a8, a9, a10, a11, a12) 1 := by
  unfold wpX_size
  refine ⟨0 + 1 + 1 + 1, mg_sz (0 + 1 + 1) 0 (by omega) e0 h0 (mg_sz (0 + 1) 1 (by omega) e1 h1 (pk_le 2 2 (fun _ => ?_) (fun z => absurd z (by omega))))⟩
  rw [Int32.zero_add]
  exact H
theorem mg_sa {post : Int32 → Prop} (n p : Nat) (hp : p < 2) {x r : Int32} (e : a9 p = r)
    (H : wX_sum_5 post 0 0 2 f1 f2 f3 a1 a2 a3 a4 a5 a6 a7 a8 a9 a10 a11 a12 n (x + (if r = 0 then a1 p else 0)) (nI (p + 1))) :
    wX_sum_5 post 0 0 2 f1 f2 f3 a1 a2 a3 a4 a5 a6 a7 a8 a9 a10 a11 a12 (n + 1) x (nI p) := by
  refine pk_le 2 p (fun z => absurd z (by omega)) (fun _ => br_f (by decide) ⟨pk_in p 24 (by omega), ?_⟩)
  rw [nI_clamp (by omega), e]
  refine br_c (fun h => br_t rfl ⟨pk_in p 24 (by omega), nm_e (nm_r (nI_1 p) ?_)⟩) (fun h => nm_r (nI_1 p) ?_)
  · rw [if_pos h] at H
    exact H
  · rw [if_neg h, Int32.add_zero] at H
    exact H
theorem mg_sumA {post : Int32 → Prop} (e0 : a9 0 = r0) (e1 : a9 1 = r1) (H : post ((if r0 = 0 then a1 0 else 0) + (if r1 = 0 then a1 1 else 0))) :
    wpX_sum post (2, f1, f2, f3, a1, a2, a3, a4, a5, a6, a7, a8, a9, a10, a11, a12) 0 0 := by
  unfold wpX_sum
  refine ⟨0 + 1 + 1 + 1, mg_sa (0 + 1 + 1) 0 (by omega) e0 (mg_sa (0 + 1) 1 (by omega) e1 (pk_le 2 2 (fun _ => ?_) (fun z => absurd z (by omega))))⟩
  rw [Int32.zero_add]
  exact H
theorem mg_sb {post : Int32 → Prop} (n p : Nat) (hp : p < 2) {x r : Int32} (e : a9 p = r) (e2 : a2 p = 3)
    (H : wX_sum_5 post 1 2 2 f1 f2 f3 a1 a2 a3 a4 a5 a6 a7 a8 a9 a10 a11 a12 n (x + (if r = 1 then a1 p * a1 p + 9 else 0)) (nI (p + 1))) :
    wX_sum_5 post 1 2 2 f1 f2 f3 a1 a2 a3 a4 a5 a6 a7 a8 a9 a10 a11 a12 (n + 1) x (nI p) := by
  have k : vp_in (nI p) 24 := pk_in p 24 (by omega)
  have n9 : (3 : Int32) * 3 = 9 := by decide
  refine pk_le 2 p (fun z => absurd z (by omega)) (fun _ => br_f (by decide) ⟨k, ?_⟩)
  rw [nI_clamp (by omega), e]
  refine br_c (fun h => br_f (by decide) (br_f (by decide) (br_t rfl ⟨k, k, k, k, nm_e (nm_r (nI_1 p) ?_)⟩))) (fun h => nm_r (nI_1 p) ?_)
  · rw [if_pos h] at H
    rw [e2, n9]
    exact H
  · rw [if_neg h, Int32.add_zero] at H
    exact H
theorem mg_sumB {post : Int32 → Prop} (e0 : a9 0 = r0) (e1 : a9 1 = r1) (e20 : a2 0 = 3) (e21 : a2 1 = 3) (H : post ((if r0 = 1 then a1 0 * a1 0 + 9 else 0) + (if r1 = 1 then a1 1 * a1 1 + 9 else 0))) :
    wpX_sum post (2, f1, f2, f3, a1, a2, a3, a4, a5, a6, a7, a8, a9, a10, a11, a12) 1 2 := by
  unfold wpX_sum
  refine ⟨0 + 1 + 1 + 1, mg_sb (0 + 1 + 1) 0 (by omega) e0 e20 (mg_sb (0 + 1) 1 (by omega) e1 e21 (pk_le 2 2 (fun _ => ?_) (fun z => absurd z (by omega))))⟩
  rw [Int32.zero_add]
  exact H
theorem mg_near {post : Int32 → St2 → Prop} (H : post (-1) (2, 2, f2, f3, a1, a2, a3, a4, a5, a6, a7, a8, a9, a10, a11, a12)) :
    wpX_near post (2, 2, f2, f3, a1, a2, a3, a4, a5, a6, a7, a8, a9, a10, a11, a12) 2 := by
  unfold wpX_near
  exact br_f (by decide) (br_f (by decide) H)
end
end
section
/-! the law's checks, and what is owed -/
section
variable {f2 f3 : Int64} {a1 a2 a3 a4 a5 a6 a7 a8 a9 a10 a11 a12 : Nat → Int32} {r0 r1 A B : Int32} {a b s t : Int} {post : Int32 → St0 → Prop} {mc ms kc ks : Nat}
theorem mg_290 {z0 z1 z2 : Int32} (hz : z2 = z1 + z0) (H : post 1 ()) : wL_lawOf_290 post mc ms z0 z1 z2 kc ks 2 2 f2 f3 a1 a2 a3 a4 a5 a6 a7 a8 a9 a10 a11 a12 := by
  unfold wL_lawOf_290
  exact br_t hz (mg_near (br_t rfl H))
theorem mg_272 {z0 z1 : Int32} (hz : z1 = z0 + (if r1 = 1 then B * B + 9 else 0)) (H : post 1 ()) : wL_lawOf_272 post mc ms B r1 z0 z1 kc ks 2 2 f2 f3 a1 a2 a3 a4 a5 a6 a7 a8 a9 a10 a11 a12 := by
  unfold wL_lawOf_272
  refine br_c (fun h => mg_290 ?_ H) (fun h => mg_290 ?_ H)
  · rw [if_pos h] at hz
    exact hz
  · rw [if_neg h] at hz
    exact hz
theorem mg_241 {z0 z1 z2 : Int32} (hz : z2 = z1 + z0) (e0 : a9 0 = r0) (e1 : a9 1 = r1) (eA : a1 0 = A) (eB : a1 1 = B) (e20 : a2 0 = 3) (e21 : a2 1 = 3) (H : post 1 ()) :
    wL_lawOf_241 post mc ms A B r0 r1 z0 z1 z2 kc ks 2 2 f2 f3 a1 a2 a3 a4 a5 a6 a7 a8 a9 a10 a11 a12 := by
  unfold wL_lawOf_241
  refine br_t hz (mg_sumB e0 e1 e20 e21 ?_)
  rw [eA, eB]
  refine br_c (fun h => mg_272 ?_ H) (fun h => mg_272 ?_ H)
  · rw [if_pos h]
  · rw [if_neg h]
theorem mg_230 {z0 z1 : Int32} (hz : z1 = z0 + (if r1 = 0 then B else 0)) (e0 : a9 0 = r0) (e1 : a9 1 = r1) (eA : a1 0 = A) (eB : a1 1 = B) (e20 : a2 0 = 3) (e21 : a2 1 = 3) (H : post 1 ()) :
    wL_lawOf_230 post mc ms A B r0 r1 z0 z1 kc ks 2 2 f2 f3 a1 a2 a3 a4 a5 a6 a7 a8 a9 a10 a11 a12 := by
  unfold wL_lawOf_230
  refine br_c (fun h => mg_241 ?_ e0 e1 eA eB e20 e21 H) (fun h => mg_241 ?_ e0 e1 eA eB e20 e21 H)
  · rw [if_pos h] at hz
    exact hz
  · rw [if_neg h] at hz
    exact hz
theorem mg_174 (h0 : r0 = 0 ∨ r0 = 1) (h1 : r1 = 0 ∨ r1 = 1) (e0 : a9 0 = r0) (e1 : a9 1 = r1) (eA : a1 0 = A) (eB : a1 1 = B) (e20 : a2 0 = 3) (e21 : a2 1 = 3) (H : post 1 ()) :
    wL_lawOf_174 post mc ms A B r0 r1 kc ks 2 2 f2 f3 a1 a2 a3 a4 a5 a6 a7 a8 a9 a10 a11 a12 := by
  unfold wL_lawOf_174
  refine mg_group 0 (by omega) (br_t e0 (mg_group 1 (by omega) (br_t e1 (mg_size e0 e1 h0 h1 (br_t rfl (mg_sumA e0 e1 ?_))))))
  rw [eA, eB]
  refine br_c (fun h => mg_230 ?_ e0 e1 eA eB e20 e21 H) (fun h => mg_230 ?_ e0 e1 eA eB e20 e21 H)
  · rw [if_pos h]
  · rw [if_neg h]
theorem mg_142 (hb : -50 ≤ b) (hb' : b ≤ 50) (hs : -50 ≤ s) (hs' : s ≤ 50) (ht : -50 ≤ t) (ht' : t ≤ 50)
    (h0 : r0 = 0 ∨ r0 = 1) (h1 : mg_R b s t r1) (e0 : a9 0 = r0) (e1 : a9 1 = r1) (eA : a1 0 = A) (eB : a1 1 = mg_i b) (e20 : a2 0 = 3) (e21 : a2 1 = 3) (H : post 1 ()) :
    wL_lawOf_142 post mc ms A (mg_i b) (mg_i s) (mg_i t) r0 kc ks 2 2 f2 f3 a1 a2 a3 a4 a5 a6 a7 a8 a9 a10 a11 a12 := by
  unfold wL_lawOf_142
  rcases h1 with ⟨er, hr⟩ | ⟨er, hr⟩
  · subst er
    exact br_t ((mg_cmp hb hb' hs hs' ht ht').mpr hr) (mg_174 h0 (Or.inl rfl) e0 e1 eA eB e20 e21 H)
  · subst er
    exact br_f (fun q => hr ((mg_cmp hb hb' hs hs' ht ht').mp q)) (mg_174 h0 (Or.inr rfl) e0 e1 eA eB e20 e21 H)
end
theorem mg_lawOf {post : Int32 → St0 → Prop} (p0 p1 p2 p3 : Int32) (H : post 1 ()) : wpL_lawOf post 88 1408 () p0 p1 p2 p3 := by
  obtain ⟨a, ha, ha', ea⟩ := mg_cell p0
  obtain ⟨b, hb, hb', eb⟩ := mg_cell p1
  obtain ⟨s, hs, hs', es⟩ := mg_cell p2
  obtain ⟨t, ht, ht', et⟩ := mg_cell p3
  unfold wpL_lawOf
  refine ⟨by omega, by omega, 12, 108, by omega, by omega, mg_init (fun b5 b6 b7 b8 b9 => ?_)⟩
  refine ⟨by decide, nm_r ea ⟨by decide, nm_r eb ⟨by decide, nm_r es ⟨by decide, nm_r et ?_⟩⟩⟩⟩
  refine mg_add 0 (by omega) (mg_inLo ha ha') (mg_inHi ha ha') (by decide) (by decide) (fun c5 c6 c7 c8 c9 => ?_)
  refine mg_add 1 (by omega) (mg_inLo hb hb') (mg_inHi hb hb') (by decide) (by decide) (fun d5 d6 d7 d8 d9 => ?_)
  refine mg_seed 0 (by omega) (mg_inLo hs hs') (mg_inHi hs hs') (by decide) (by decide) (fun x5 x6 x7 x8 x9 _ _ _ _ => ?_)
  refine mg_seed 1 (by omega) (mg_inLo ht ht') (mg_inHi ht ht') (by decide) (by decide) (fun y5 y6 y7 y8 y9 k5 k6 k7 k9 => br_t rfl ?_)
  have q10 : upd (upd (fun _ => (0 : Int32)) 0 (mg_i a)) 1 (mg_i b) 0 = mg_i a := by
    rw [pk_un (by omega), pk_us]
  have q20 : upd (upd (fun _ => (0 : Int32)) 0 3) 1 3 0 = 3 := by
    rw [pk_un (by omega), pk_us]
  have q50 : y5 0 = mg_i s := by
    rw [k5 0 (by omega), pk_un (by omega), pk_us]
  have q60 : y6 0 = 3 := by
    rw [k6 0 (by omega), pk_un (by omega), pk_us]
  have q51 : y5 1 = mg_i t := by
    rw [k5 1 (by omega), pk_us]
  have q61 : y6 1 = 3 := by
    rw [k6 1 (by omega), pk_us]
  refine mg_round ha ha' hb hb' hs hs' ht ht' q10 pk_us q20 pk_us q50 q51 q60 q61 (k7 0 (by omega)) (k7 1 (by omega)) (k9 0 (by omega)) (k9 1 (by omega)) (fun r0 r1 u l z5 z6 z7 z8 z9 z10 z11 z12 h0 h1 e0 e1 => br_t rfl ?_)
  rcases h0 with ⟨er, hr⟩ | ⟨er, hr⟩
  · subst er
    exact br_t ((mg_cmp ha ha' hs hs' ht ht').mpr hr) (mg_142 hb hb' hs hs' ht ht' (Or.inl rfl) h1 e0 e1 q10 pk_us q20 pk_us H)
  · subst er
    exact br_f (fun q => hr ((mg_cmp ha ha' hs hs' ht ht').mp q)) (mg_142 hb hb' hs hs' ht ht' (Or.inr rfl) h1 e0 e1 q10 pk_us q20 pk_us H)
theorem mg_cellAt {post : Int32 → Prop} {L : Nat} {xs : Nat → Int32} (hL : L ≤ 4) (k : Nat) (hk : k < 4) (H : ∀ r, post r) : wpL_cellAt post L xs () (nI k) := by
  unfold wpL_cellAt
  exact pk_le L k (fun _ => H _) (fun z => ⟨pk_in k L z, H _⟩)
theorem i_vc (xs : Nat → Int32) (L : Nat) (hL : L ≤ 4) : wpL_law (fun r => r = 1) L xs := by
  unfold wpL_law
  exact mg_cellAt hL 0 (by omega) (fun x0 => mg_cellAt hL 1 (by omega) (fun x1 => mg_cellAt hL 2 (by omega) (fun x2 => mg_cellAt hL 3 (by omega) (fun x3 =>
    ⟨88, 1408, by omega, by omega, mg_lawOf x0 x1 x2 x3 rfl⟩))))
end
