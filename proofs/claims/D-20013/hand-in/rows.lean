section
/-- the plain picture: the sum of the first n places -/
def sf_s (a : Nat → Int32) : Nat → Int32
  | 0 => 0
  | n + 1 => sf_s a n + a n
/-- the few: the first two places, where there are two at least -/
def sf_few (a : Nat → Int32) (n i : Nat) : Int32 := if n ≤ 1 then 0 else sf_s a (min i 2)
/-- what both forms answer -/
def sf_val (p : Int32) (a : Nat → Int32) (n : Nat) : Int32 := if n = 0 then p else p * 11 + sf_s a n * 10 + sf_few a n n
theorem sf_z (p : Int32) : p = p + 0 := by grind
theorem sf_st {p s x : Int32} {a : Nat → Int32} {i : Nat} (h : s = p + sf_s a i) (hx : x = a i) : s + x = p + sf_s a (i + 1) := by
  subst h hx
  show p + sf_s a i + a i = p + (sf_s a i + a i)
  grind
theorem sf_sum {post : Int32 → Prop} {a : Nat → Int32} {n : Nat} {p : Int32} (hn : n ≤ 100) (hp : post (p + sf_s a n)) : wpX0_sum post (a, n) p := by
  unfold wpX0_sum
  exact nm_e (pk_loop (fun m i s => wX0_sum_11 post (nI n) a n m s (nI i)) (fun i s => s = p + sf_s a i) n 0 p (by omega) (sf_z p)
    (fun m s h => pk_le n n (fun _ => ek_v (P := post) h hp) (fun z => absurd z (by omega)))
    (fun m i s hi h hw => pk_le n i (fun z => absurd z (by omega)) (fun _ => ⟨pk_in i n hi, nm_e (nm_e (nm_r (nI_1 i) (hw _ (sf_st h (by rw [nI_clamp (by omega)])))))⟩)))
theorem sf_sum2 {post : Int32 → Prop} {a : Nat → Int32} {p : Int32} (hp : post p) : wpX0_sum_2 post a p :=
  ⟨1, pk_le 0 0 (fun _ => hp) (fun z => absurd z (by omega))⟩
theorem sf_sum3 {post : Int32 → Prop} {a : Nat → Int32} {p : Int32} (hp : post (p + sf_s a 2)) : wpX0_sum_3 post a p := by
  unfold wpX0_sum_3
  exact pk_loop (fun m i s => wX0_sum_3_11 post 2 a m s (nI i)) (fun i s => s = p + sf_s a i) 2 0 p (by omega) (sf_z p)
    (fun m s h => pk_le 2 2 (fun _ => ek_v (P := post) h hp) (fun z => absurd z (by omega)))
    (fun m i s hi h hw => pk_le 2 i (fun z => absurd z (by omega)) (fun _ => ⟨pk_in i 2 hi, nm_e (nm_e (nm_r (nI_1 i) (hw _ (sf_st h (by rw [nI_clamp (by omega)])))))⟩))
theorem sf_two (a : Nat → Int32) (x y : Int32) (hx : x = a 0) (hy : y = a 1) : sf_s (upd (upd (fun _ => 0) 0 x) 1 y) 2 = sf_s a 2 := by
  subst hx hy
  show 0 + upd (upd (fun _ => 0) 0 (a 0)) 1 (a 1) 0 + upd (upd (fun _ => 0) 0 (a 0)) 1 (a 1) 1 = 0 + a 0 + a 1
  rw [pk_us, pk_un (by omega), pk_us]
theorem sf_v0 {p x : Int32} {a : Nat → Int32} {n : Nat} (h : n = 0) (hx : x = p + sf_s a n) : x = sf_val p a n := by
  subst h hx
  exact (sf_z p).symm
theorem sf_v1 {p x y : Int32} {a : Nat → Int32} {n : Nat} (h : n ≠ 0) (hx : x = p + sf_s a n) (hy : y = p + sf_few a n n) : x * 10 + y = sf_val p a n := by
  unfold sf_val
  rw [if_neg h, hx, hy]
  grind
theorem sf_f1 {p : Int32} {a : Nat → Int32} {n : Nat} (h : n ≤ 1) : p = p + sf_few a n n := by
  unfold sf_few
  rw [if_pos h]
  exact sf_z p
theorem sf_f2 {p : Int32} {a : Nat → Int32} {n : Nat} (h : 1 < n) : p + sf_s a 2 = p + sf_few a n n := by
  unfold sf_few
  rw [if_neg (by omega), show min n 2 = 2 by omega]
theorem sf_x41 {post : Int32 → St1 → Prop} {mc ms kc ks : Nat} {x z p : Int32} {a : Nat → Int32} {n : Nat} (hn : n ≤ 100) (hk : kc + 1 ≤ mc) (hs : ks ≤ ms) (hx : x = p + sf_s a n) (hz : z = p + sf_few a n n) (hp : post (sf_val p a n) (a, n)) : wX0_weighedSum_41 post mc ms x z kc ks a n := by
  unfold wX0_weighedSum_41
  exact pk_eq n 0 (fun e => ⟨hk, hs, sf_sum2 (ek_v (P := fun r => post r (a, n)) (sf_v0 e hx) hp)⟩) (fun e => ek_v (P := fun r => post r (a, n)) (sf_v1 e hx hz) hp)
theorem sf_x {post : Int32 → St1 → Prop} {mc ms : Nat} {p : Int32} {a : Nat → Int32} {n : Nat} (hn : n ≤ 100) (hk : 2 ≤ mc) (hs : 2 ≤ ms) (hp : post (sf_val p a n) (a, n)) : wpX0_weighedSum post mc ms (a, n) p := by
  unfold wpX0_weighedSum
  refine sf_sum hn (pk_le n 1 (fun h => ⟨by omega, by omega, sf_sum2 (sf_x41 hn (by omega) (by omega) rfl (sf_f1 h) hp)⟩) (fun h => ⟨by omega, hs, pk_in 0 n (by omega), nm_e ⟨pk_in 1 n h, nm_e (sf_sum3 ?_)⟩⟩))
  refine sf_x41 hn (by omega) (by omega) rfl ?_ hp
  rw [sf_two a (a (0 : Int32).toNatClampNeg) (a (1 : Int32).toNatClampNeg) rfl rfl]
  exact sf_f2 h
end
section
theorem sf_m1 {x s y : Int32} {k : Nat} (h : s = x + nI k * y) : s + y = x + nI (k + 1) * y := by
  subst h
  rw [← nI_1 k]
  grind
theorem sf_m0 (x y : Int32) : x = x + nI 0 * y := by
  rw [nI_0]
  grind
/-- the inner loop's step, at its bound c (10 or 11) -/
theorem sf_y55 {post : Int32 → Prop} {J K : Int32 → Int32 → Prop} {x4 x s : Int32} {a : Nat → Int32} {n j c k : Nat} (hn : n ≤ 100) (hj : j < n) (hc : c ≤ 11) (hk : k ≤ c)
    (h : s = x + nI k * a j) (H : J (x + nI c * a j) (nI (j + 1))) (hw : k < c → ∀ s', s' = x + nI (k + 1) * a j → K s' (nI (k + 1))) :
    wX1_weighedSum_55 post J K s (nI j) x4 (nI k) (nI c) (nI k) a n := by
  unfold wX1_weighedSum_55
  rw [nI_clamp (show j < 2 ^ 31 by omega)]
  exact pk_le c k (fun z => nm_r (nI_1 j) (by rw [h, show k = c by omega]; exact H)) (fun z => ⟨pk_in j n hj, nm_e (nm_r (nI_1 k) (hw z _ (sf_m1 h)))⟩)
theorem sf_y41a {post : Int32 → Prop} {J : Int32 → Int32 → Prop} {x : Int32} {a : Nat → Int32} {n j : Nat} (hn : n ≤ 100) (hj : j < n) (H : J (x + nI 10 * a j) (nI (j + 1))) : ∃ fu, wX1_weighedSum_41 post J (nI j) 0 a n fu x 0 :=
  pk_loop (fun m i s => wX1_weighedSum_41 post J (nI j) 0 a n m s (nI i)) (fun i s => s = x + nI i * a j) 10 0 x (by omega) (sf_m0 x (a j))
    (fun m s h => br_t rfl (sf_y55 (c := 10) (k := 10) hn hj (by omega) (Nat.le_refl 10) h H (fun z => absurd z (by omega))))
    (fun m i s hi h hw => br_t rfl (sf_y55 (c := 10) hn hj (by omega) (by omega) h H (fun _ s' hs' => hw s' hs')))
theorem sf_y41b {post : Int32 → Prop} {J : Int32 → Int32 → Prop} {x : Int32} {a : Nat → Int32} {n j : Nat} (hn : n ≤ 100) (hj : j < n) (H : J (x + nI 11 * a j) (nI (j + 1))) : ∃ fu, wX1_weighedSum_41 post J (nI j) 1 a n fu x 0 :=
  pk_loop (fun m i s => wX1_weighedSum_41 post J (nI j) 1 a n m s (nI i)) (fun i s => s = x + nI i * a j) 11 0 x (by omega) (sf_m0 x (a j))
    (fun m s h => br_f (by decide) (sf_y55 (c := 11) (k := 11) hn hj (by omega) (Nat.le_refl 11) h H (fun z => absurd z (by omega))))
    (fun m i s hi h hw => br_f (by decide) (sf_y55 (c := 11) hn hj (by omega) (by omega) h H (fun _ s' hs' => hw s' hs')))
/-- the outer loop's picture behind i places -/
def sf_at (p : Int32) (a : Nat → Int32) (n i : Nat) : Int32 := p * 11 + sf_s a i * 10 + sf_few a n i
theorem sf_at0 (p : Int32) (a : Nat → Int32) (n : Nat) : p * 11 = sf_at p a n 0 := by
  have e : sf_few a n 0 = 0 := by
    unfold sf_few
    split
    · rfl
    · rfl
  unfold sf_at
  rw [e]
  show p * 11 = p * 11 + 0 * 10 + 0
  grind
theorem sf_at10 {p s : Int32} {a : Nat → Int32} {n i : Nat} (h : s = sf_at p a n i) (hc : n ≤ 1 ∨ 2 ≤ i) : s + nI 10 * a i = sf_at p a n (i + 1) := by
  have e : sf_few a n (i + 1) = sf_few a n i := by
    unfold sf_few
    by_cases h1 : n ≤ 1
    · rw [if_pos h1, if_pos h1]
    · rw [if_neg h1, if_neg h1, show min (i + 1) 2 = min i 2 by omega]
  subst h
  unfold sf_at
  rw [e]
  show p * 11 + sf_s a i * 10 + sf_few a n i + 10 * a i = p * 11 + (sf_s a i + a i) * 10 + sf_few a n i
  grind
theorem sf_at11 {p s : Int32} {a : Nat → Int32} {n i : Nat} (h : s = sf_at p a n i) (h1 : 1 < n) (h2 : i < 2) : s + nI 11 * a i = sf_at p a n (i + 1) := by
  have e : sf_few a n (i + 1) = sf_few a n i + a i := by
    unfold sf_few
    rw [if_neg (by omega), if_neg (by omega), show min (i + 1) 2 = i + 1 by omega, show min i 2 = i by omega]
    rfl
  subst h
  unfold sf_at
  rw [e]
  show p * 11 + sf_s a i * 10 + sf_few a n i + 11 * a i = p * 11 + (sf_s a i + a i) * 10 + (sf_few a n i + a i)
  grind
theorem sf_y14 {post : Int32 → Prop} {p : Int32} {a : Nat → Int32} {n : Nat} (hn : n ≤ 100) (hp : post (sf_at p a n n)) : ∃ fu, wX1_weighedSum_14 post a n fu (p * 11) 0 :=
  pk_loop (fun m i s => wX1_weighedSum_14 post a n m s (nI i)) (fun i s => s = sf_at p a n i) n 0 (p * 11) (by omega) (sf_at0 p a n)
    (fun m s h => pk_le n n (fun _ => ek_v (P := post) h hp) (fun z => absurd z (by omega)))
    (fun m i s hi h hw => pk_le n i (fun z => absurd z (by omega)) (fun _ => pk_le n 1 (fun z => sf_y41a hn hi (hw _ (sf_at10 h (Or.inl z))))
      (fun z => pk_le 2 i (fun y => sf_y41a hn hi (hw _ (sf_at10 h (Or.inr y)))) (fun y => sf_y41b hn hi (hw _ (sf_at11 h z y))))))
theorem sf_y {post : Int32 → Prop} {p : Int32} {a : Nat → Int32} {n : Nat} (hn : n ≤ 100) (hp : post (sf_val p a n)) : wpX1_weighedSum post (a, n) p := by
  unfold wpX1_weighedSum
  refine pk_eq n 0 (fun e => ?_) (fun e => nm_e (sf_y14 hn ?_))
  · unfold sf_val at hp
    rw [if_pos e] at hp
    exact hp
  · unfold sf_val at hp
    rw [if_neg e] at hp
    exact hp
end
section
theorem sf_90 {post : Int32 → St0 → Prop} {mc ms kc ks n : Nat} {a : Nat → Int32} (hn : n ≤ 100) (hp : post 1 ()) : ∃ fu, wL_lawOf_90 post mc ms (nI n) kc ks a n a n fu 0 :=
  pk_loop (σ := Unit) (fun m i _ => wL_lawOf_90 post mc ms (nI n) kc ks a n a n m (nI i)) (fun _ _ => True) n 0 () (by omega) trivial
    (fun m _ _ => pk_le n n (fun _ => hp) (fun z => absurd z (by omega)))
    (fun m i _ hi _ hw => pk_le n i (fun z => absurd z (by omega)) (fun _ => ⟨pk_in i n hi, pk_in i n hi, br_t rfl (nm_r (nI_1 i) (hw () trivial))⟩))
theorem sf_27 {post : Int32 → St0 → Prop} {mc ms ks n : Nat} {x0 x1 x3 : Int32} {a : Nat → Int32} (hn : n ≤ 100) (hc : 4 ≤ mc) (hs : ks + 2 ≤ ms) (hp : post 1 ()) : ∃ fu, wL_lawOf_27 post mc ms x0 x1 x3 (nI n) 2 ks n n fu 0 a a :=
  pk_loop (fun m i s => wL_lawOf_27 post mc ms x0 x1 x3 (nI n) 2 ks n n m (nI i) s s) (fun _ _ => True) n 0 a (by omega) trivial
    (fun m s _ => pk_le n n (fun _ => ⟨2, 2, hc, hs, sf_x hn (by omega) (by omega) (sf_y hn (br_t rfl (sf_90 hn hp)))⟩) (fun z => absurd z (by omega)))
    (fun m i s hi _ hw => pk_le n i (fun z => absurd z (by omega)) (fun _ => nm_e ⟨pk_in i n hi, nm_e ⟨pk_in i n hi, nm_e (nm_r (nI_1 i) (hw _ trivial))⟩⟩))
theorem sf_len (x : Int32) : ∃ n : Nat, n ≤ 8 ∧ (x &&& 7) + (((x.toUInt32 >>> ((3 : Int32).toUInt32 &&& Int32.toUInt32 31)).toInt32) &&& 1) = nI n := by
  obtain ⟨j, hj, e⟩ := pk_andE x (m := 7) 3 (by decide)
  obtain ⟨k, hk, f⟩ := pk_andE ((x.toUInt32 >>> ((3 : Int32).toUInt32 &&& Int32.toUInt32 31)).toInt32) (m := 1) 1 (by decide)
  exact ⟨j + k, by omega, by rw [e, f, nI_add]⟩
theorem sf_lawOf {post : Int32 → St0 → Prop} {p0 p1 p2 p3 : Int32} (hp : post 1 ()) : wpL_lawOf post 8 120 () p0 p1 p2 p3 := by
  obtain ⟨n, hn, e⟩ := sf_len p2
  have hc : (nI n).toNatClampNeg = n := nI_clamp (by omega)
  unfold wpL_lawOf
  exact nm_r e ⟨nI_pos (by omega), nm_r hc ⟨by omega, by omega, by omega, nI_pos (by omega), nm_r hc ⟨by omega, by omega, by omega, sf_27 (by omega) (by omega) (by omega) hp⟩⟩⟩
theorem sf_cell {post : Int32 → Prop} {L k : Nat} {xs : Nat → Int32} {x : Int32} (hL : L ≤ 4) (hk : k ≤ 4) (hx : x = nI k) (hp : ∀ r, post r) : wpL_cellAt post L xs () x := by
  unfold wpL_cellAt
  exact pk_le L k (fun _ => hp _) (fun z => ⟨pk_in k L z hx, hp _⟩) rfl hx
theorem i_vc (xs : Nat → Int32) (L : Nat) (hL : L ≤ 4) : wpL_law (fun r => r = 1) L xs := by
  unfold wpL_law
  exact sf_cell (k := 0) hL (by omega) rfl (fun _ => sf_cell (k := 1) hL (by omega) rfl (fun _ => sf_cell (k := 2) hL (by omega) rfl (fun _ => sf_cell (k := 3) hL (by omega) rfl (fun _ => ⟨8, 120, by omega, by omega, sf_lawOf rfl⟩))))
end
