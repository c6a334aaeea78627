section
/-- how many entries stand ahead of row r, where the one entry h stands in row i -/
def sk_c (h : Int32) (i r : Nat) : Nat := if h = 0 then 0 else if i < r then 1 else 0
/-- slot s holds the matrix whose one entry is h, at row i and column j (the empty one where h is 0) -/
def sk_M (a1 a2 a3 : Nat → Int32) (s i j : Nat) (h : Int32) : Prop := (∀ r, r < 7 → a1 (s * 7 + r) = nI (sk_c h i r)) ∧ (¬ h = 0 → a2 (s * 36) = nI j ∧ a3 (s * 36) = h)
/-- the matrix that is being made, q rows of it done -/
def sk_N (f : Int32) (a4 a5 a6 : Nat → Int32) (q i j : Nat) (h : Int32) : Prop := f = nI (sk_c h i q) ∧ (∀ r, r ≤ q → a4 r = nI (sk_c h i r)) ∧ (¬ h = 0 → i < q → a5 0 = nI j ∧ a6 0 = h)
/-- what a store into slot t leaves as it was -/
def sk_K (t : Nat) (a1 a2 a3 b1 b2 b3 : Nat → Int32) : Prop := (∀ k, (k < t * 7 ∨ t * 7 + 7 ≤ k) → b1 k = a1 k) ∧ (∀ k, k ≠ t * 36 → b2 k = a2 k ∧ b3 k = a3 k)
theorem sk_c0 (i r : Nat) : sk_c 0 i r = 0 := by
  unfold sk_c
  rw [if_pos rfl]
theorem sk_cz {h : Int32} (e : h = 0) (i r : Nat) : sk_c h i r = 0 := by
  rw [e, sk_c0]
theorem sk_clo {h : Int32} {i r : Nat} (e : r ≤ i) : sk_c h i r = 0 := by
  unfold sk_c
  by_cases z : h = 0
  · rw [if_pos z]
  · rw [if_neg z, if_neg (by omega)]
theorem sk_chi {h : Int32} {i r : Nat} (z : ¬ h = 0) (e : i < r) : sk_c h i r = 1 := by
  unfold sk_c
  rw [if_neg z, if_pos e]
theorem sk_cle (h : Int32) (i r : Nat) : sk_c h i r ≤ 1 := by
  by_cases z : h = 0
  · rw [sk_cz z]
    omega
  · by_cases e : i < r
    · rw [sk_chi z e]
      omega
    · rw [sk_clo (by omega)]
      omega
theorem sk_csame {h : Int32} {i r : Nat} (e : h = 0 ∨ r ≠ i) : sk_c h i (r + 1) = sk_c h i r := by
  by_cases z : h = 0
  · rw [sk_cz z, sk_cz z]
  · have e' : r ≠ i := e.resolve_left z
    by_cases g : i < r
    · rw [sk_chi z g, sk_chi z (by omega)]
    · rw [sk_clo (by omega), sk_clo (by omega)]
theorem sk_7 (s r : Nat) : nI s * 7 + nI r = nI (s * 7 + r) := by
  rw [show (7 : Int32) = nI 7 from rfl, pk_mul, nI_add]
theorem sk_36 (s k : Nat) : nI s * 36 + nI k = nI (s * 36 + k) := by
  rw [show (36 : Int32) = nI 36 from rfl, pk_mul, nI_add]
theorem sk_nb : ∀ c, c < 128 → (nI c).toInt8.toInt32 = nI c := by decide +kernel
theorem sk_vb {c : Nat} (h : c < 128) : vp_nar .byte (nI c) = nI c := by
  rw [vp_nar_byte]
  exact sk_nb c h
theorem sk_pm : ∀ a, a < 200 → nI a - 1 < nI a := by decide +kernel
theorem sk_ix (x : Int32) {n : Nat} (hn : n < 2 ^ 31) : (∃ j : Nat, j < n ∧ x = nI j) ∨ (x < 0 ∨ (¬ x < 0 ∧ nI n ≤ x)) := by
  rcases pk_ix x hn with h | h | h
  · exact Or.inr (Or.inl h)
  · by_cases z : x < 0
    · exact Or.inr (Or.inl z)
    · exact Or.inr (Or.inr ⟨z, h⟩)
  · exact Or.inl h
theorem sk_slot {post : Int32 → Prop} {s : Nat} (hs : s < 5) (H : post 1) : wpX_isSlot post () (nI s) :=
  br_f (nI_pos (by omega)) (br_f (nI_ge (b := 5) hs (by decide)) H)
theorem sk_nslot {post : Int32 → Prop} {x : Int32} (h : x < 0 ∨ (¬ x < 0 ∧ nI 5 ≤ x)) (H : post 0) : wpX_isSlot post () x := by
  rcases h with h | ⟨h, g⟩
  · exact br_t h H
  · exact br_f h (br_t g H)
theorem sk_index {post : Int32 → Prop} {s : Nat} (hs : s < 6) (H : post 1) : wpX_isIndex post () (nI s) :=
  br_f (nI_pos (by omega)) (br_f (nI_ge (b := 6) hs (by decide)) H)
theorem sk_nindex {post : Int32 → Prop} {x : Int32} (h : x < 0 ∨ (¬ x < 0 ∧ nI 6 ≤ x)) (H : post 0) : wpX_isIndex post () x := by
  rcases h with h | ⟨h, g⟩
  · exact br_t h H
  · exact br_f h (br_t g H)
theorem sk_10 : ¬ (1 : Int32) = 0 := by decide
theorem sk_from {post : Int32 → Prop} {f : Int32} {a1 a2 a3 a4 a5 a6 a7 : Nat → Int32} {s i j r : Nat} {h : Int32} (M : sk_M a1 a2 a3 s i j h) (hs : s < 5) (hr : r < 6) (H : post (nI (s * 36 + sk_c h i r))) : wpX_from post (f, a1, a2, a3, a4, a5, a6, a7) (nI s) (nI r) := by
  show vp_in (nI s * 7 + nI r) 35 ∧ post (nI s * 36 + a1 (nI s * 7 + nI r).toNatClampNeg)
  rw [sk_7, nI_clamp (by omega), M.1 r (by omega), sk_36]
  exact ⟨vp_in_nI (by omega) (by decide), H⟩
theorem sk_upTo {post : Int32 → Prop} {f : Int32} {a1 a2 a3 a4 a5 a6 a7 : Nat → Int32} {s i j r : Nat} {h : Int32} (M : sk_M a1 a2 a3 s i j h) (hs : s < 5) (hr : r < 6) (H : post (nI (s * 36 + sk_c h i (r + 1)))) : wpX_upTo post (f, a1, a2, a3, a4, a5, a6, a7) (nI s) (nI r) := by
  show vp_in (nI s * 7 + nI r + 1) 35 ∧ post (nI s * 36 + a1 (nI s * 7 + nI r + 1).toNatClampNeg)
  rw [sk_7, nI_1, nI_clamp (by omega), Nat.add_assoc, M.1 (r + 1) (by omega), sk_36]
  exact ⟨vp_in_nI (by omega) (by decide), H⟩
theorem sk_zero (s : Nat) : sk_M (fun _ => 0) (fun _ => 0) (fun _ => 0) s 0 0 0 :=
  ⟨fun r _ => by rw [sk_c0]; rfl, fun h => absurd rfl h⟩
theorem sk_keep {t s i j : Nat} {g : Int32} {a1 a2 a3 b1 b2 b3 : Nat → Int32} (K : sk_K t a1 a2 a3 b1 b2 b3) (e : s ≠ t) (M : sk_M a1 a2 a3 s i j g) : sk_M b1 b2 b3 s i j g := by
  refine ⟨fun r hr => ?_, fun hg => ?_⟩
  · rw [K.1 _ (by omega)]
    exact M.1 r hr
  · have k := K.2 (s * 36) (by omega)
    rw [k.1, k.2]
    exact M.2 hg
end
section
theorem sk_clear {post : St2 → Prop} {f : Int32} {a1 a2 a3 a4 a5 a6 a7 : Nat → Int32} (H : ∀ b, (∀ k, k < 6 → b k = 0) → post (f, a1, a2, a3, a4, a5, a6, b)) : wpX_clearWork post (f, a1, a2, a3, a4, a5, a6, a7) :=
  pk_loop (fun n x s => wX_clearWork_2 post f n (nI x) a1 a2 a3 a4 a5 a6 s) (fun x s => ∀ k, k < x → s k = 0) 6 0 a7 (by omega) lt_0
    (fun n s h => pk_le 6 6 (fun _ => H s h) (fun z => absurd z (by omega)))
    (fun n x s hx h hw => pk_le 6 x (fun z => absurd z (by omega)) (fun _ => ⟨pk_in x 6 hx, nm_r (e' := upd s x 0) (by rw [nI_clamp (by omega)]) (nm_r (nI_1 x) (hw _ (fun k hk => by
      by_cases e : k = x
      · rw [e, pk_us]
      · rw [pk_un e]
        exact h k (by omega))))⟩))
theorem sk_emit0 {post : St2 → Prop} {f p0 p1 : Int32} {a1 a2 a3 a4 a5 a6 a7 : Nat → Int32} (hp : p1 = 0) (H : post (f, a1, a2, a3, a4, a5, a6, a7)) : wpX_emit post (f, a1, a2, a3, a4, a5, a6, a7) p0 p1 :=
  br_t hp H
theorem sk_emit1 {post : St2 → Prop} {p0 p1 : Int32} {a1 a2 a3 a4 a5 a6 a7 : Nat → Int32} (hp : ¬ p1 = 0) (H : post (nI 1, a1, a2, a3, a4, upd a5 0 p0.toInt8.toInt32, upd a6 0 p1, a7)) : wpX_emit post (nI 0, a1, a2, a3, a4, a5, a6, a7) p0 p1 :=
  br_f hp ⟨pk_in 0 36 (by omega), nm_r (e' := upd a5 0 p0.toInt8.toInt32) (by rw [nI_clamp (by omega)]) ⟨pk_in 0 36 (by omega), nm_r (e' := upd a6 0 p1) (by rw [nI_clamp (by omega)]) (nm_r (nI_1 0) H)⟩⟩
theorem sk_ew0 {post : St2 → Prop} {f : Int32} {a1 a2 a3 a4 a5 a6 a7 : Nat → Int32} (hw : ∀ k, k < 6 → a7 k = 0) (H : post (f, a1, a2, a3, a4, a5, a6, a7)) : wpX_emitWork post (f, a1, a2, a3, a4, a5, a6, a7) :=
  pk_loop (σ := Unit) (fun n x _ => wX_emitWork_2 post n (nI x) f a1 a2 a3 a4 a5 a6 a7) (fun _ _ => True) 6 0 () (by omega) trivial
    (fun n _ _ => pk_le 6 6 (fun _ => H) (fun z => absurd z (by omega)))
    (fun n x _ hx _ hg => pk_le 6 x (fun z => absurd z (by omega)) (fun _ => ⟨pk_in x 6 hx, sk_emit0 (by rw [nI_clamp (by omega)]; exact hw x hx) (nm_r (nI_1 x) (hg () trivial))⟩))
theorem sk_ew1 {post : St2 → Prop} {w : Int32} {j : Nat} {a1 a2 a3 a4 a5 a6 a7 : Nat → Int32} (hj : j < 6) (hw0 : ¬ w = 0) (hw : a7 j = w) (hz : ∀ k, k < 6 → k ≠ j → a7 k = 0) (H : post (nI 1, a1, a2, a3, a4, upd a5 0 (nI j), upd a6 0 w, a7)) : wpX_emitWork post (nI 0, a1, a2, a3, a4, a5, a6, a7) := by
  refine pk_loop (σ := Int32 × (Nat → Int32) × (Nat → Int32)) (fun n x s => wX_emitWork_2 post n (nI x) s.1 a1 a2 a3 a4 s.2.1 s.2.2 a7) (fun x s => s = if j < x then (nI 1, upd a5 0 (nI j), upd a6 0 w) else (nI 0, a5, a6)) 6 0 (nI 0, a5, a6) (by omega) (by rw [if_neg (by omega)]) ?_ ?_
  · intro n s h
    rw [if_pos hj] at h
    subst h
    exact pk_le 6 6 (fun _ => H) (fun z => absurd z (by omega))
  · intro n x s hx h hg
    refine pk_le 6 x (fun z => absurd z (by omega)) (fun _ => ⟨pk_in x 6 hx, ?_⟩)
    rw [nI_clamp (show x < 2 ^ 31 by omega)]
    by_cases e : x = j
    · subst e
      rw [if_neg (by omega)] at h
      subst h
      rw [hw]
      refine sk_emit1 hw0 (nm_r (nI_1 x) ?_)
      rw [sk_nb x (by omega)]
      exact hg (nI 1, upd a5 0 (nI x), upd a6 0 w) (by rw [if_pos (by omega)])
    · refine sk_emit0 (hz x hx e) (nm_r (nI_1 x) (hg s ?_))
      rw [h]
      by_cases g : j < x
      · rw [if_pos g, if_pos (by omega)]
      · rw [if_neg g, if_neg (by omega)]
theorem sk_end {post : St2 → Prop} {f : Int32} {a1 a2 a3 a4 a5 a6 a7 : Nat → Int32} {x : Nat} (hx : x < 6) (H : post (f, a1, a2, a3, upd a4 (x + 1) f.toInt8.toInt32, a5, a6, a7)) : wpX_endRow post (f, a1, a2, a3, a4, a5, a6, a7) (nI x) := by
  refine ⟨pk_in (x + 1) 7 (by omega) (nI_1 x), nm_r (e' := upd a4 (x + 1) f.toInt8.toInt32) ?_ H⟩
  rw [nI_1, nI_clamp (by omega)]
theorem sk_N0 {a4 a5 a6 : Nat → Int32} (i j : Nat) (h : Int32) : sk_N 0 (upd a4 0 0) a5 a6 0 i j h := by
  refine ⟨by rw [sk_clo (by omega)]; rfl, fun r hr => ?_, fun _ z => absurd z (by omega)⟩
  have e : r = 0 := by omega
  rw [e, pk_us, sk_clo (by omega)]
  rfl
theorem sk_Na {f h : Int32} {a4 a5 a6 : Nat → Int32} {x i j : Nat} (N : sk_N f a4 a5 a6 x i j h) (e : h = 0 ∨ x ≠ i) : sk_N f (upd a4 (x + 1) f.toInt8.toInt32) a5 a6 (x + 1) i j h := by
  obtain ⟨n1, n2, n3⟩ := N
  refine ⟨by rw [sk_csame e]; exact n1, fun r hr => ?_, fun z g => ?_⟩
  · by_cases q : r = x + 1
    · rw [q, pk_us, n1, sk_nb _ (by have := sk_cle h i x; omega), sk_csame e]
    · rw [pk_un q]
      exact n2 r (by omega)
  · have e' : x ≠ i := e.resolve_left z
    exact n3 z (by omega)
theorem sk_Nb {f h : Int32} {a4 a5 a6 : Nat → Int32} {x j : Nat} (N : sk_N f a4 a5 a6 x x j h) (z : ¬ h = 0) : sk_N (nI 1) (upd a4 (x + 1) (nI 1).toInt8.toInt32) (upd a5 0 (nI j)) (upd a6 0 h) (x + 1) x j h := by
  obtain ⟨n1, n2, n3⟩ := N
  refine ⟨by rw [sk_chi z (by omega)], fun r hr => ?_, fun _ g => ⟨pk_us, pk_us⟩⟩
  by_cases q : r = x + 1
  · rw [q, pk_us, sk_nb _ (by omega), sk_chi z (by omega)]
  · rw [pk_un q]
    exact n2 r (by omega)
theorem sk_st33 {post : Int32 → St2 → Prop} {t i j : Nat} {h : Int32} {a1 a2 a3 a4 a5 a6 a7 : Nat → Int32} (ht : t < 5) (hi : i < 6) (hj : j < 6) (n3 : ¬ h = 0 → a5 0 = nI j ∧ a6 0 = h)
    (H : ∀ b2 b3, (¬ h = 0 → b2 (t * 36) = nI j ∧ b3 (t * 36) = h) → (∀ k, k ≠ t * 36 → b2 k = a2 k ∧ b3 k = a3 k) → post (nI (sk_c h i 6)) (nI (sk_c h i 6), a1, b2, b3, a4, a5, a6, a7)) :
    ∃ n, wX_store_33 post (nI t) (nI (sk_c h i 6)) n 0 a1 a2 a3 a4 a5 a6 a7 := by
  by_cases z : h = 0
  · have c : sk_c h i 6 = 0 := sk_cz z i 6
    rw [c] at H ⊢
    exact ⟨0 + 1, pk_le 0 0 (fun _ => H a2 a3 (fun g => absurd z g) (fun k _ => ⟨rfl, rfl⟩)) (fun g => absurd g (by omega))⟩
  · have c : sk_c h i 6 = 1 := sk_chi z hi
    rw [c] at H ⊢
    have e : nI t * 36 + 0 = nI (t * 36) := sk_36 t 0
    obtain ⟨p, q⟩ := n3 z
    refine ⟨1 + 1, pk_le 1 0 (fun g => absurd g (by omega)) (fun _ => ⟨pk_in 0 36 (by omega), pk_in (t * 36) 180 (by omega) e, nm_r (e' := upd a2 (t * 36) (nI j)) ?_ ⟨pk_in 0 36 (by omega), pk_in (t * 36) 180 (by omega) e, nm_r (e' := upd a3 (t * 36) h) ?_ (nm_r (nI_1 0) ?_)⟩⟩)⟩
    · rw [e, nI_clamp (by omega), show (0 : Int32).toNatClampNeg = 0 from rfl, p, sk_vb (by omega)]
    · rw [e, nI_clamp (by omega), show (0 : Int32).toNatClampNeg = 0 from rfl, q]
    · exact pk_le 1 1 (fun _ => H _ _ (fun _ => ⟨pk_us, pk_us⟩) (fun k g => ⟨pk_un g, pk_un g⟩)) (fun g => absurd g (by omega))
theorem sk_store {post : Int32 → St2 → Prop} {t i j : Nat} {f h : Int32} {a1 a2 a3 a4 a5 a6 a7 : Nat → Int32} (ht : t < 5) (hi : i < 6) (hj : j < 6) (N : sk_N f a4 a5 a6 6 i j h)
    (H : ∀ b1 b2 b3, sk_M b1 b2 b3 t i j h → sk_K t a1 a2 a3 b1 b2 b3 → post (nI (sk_c h i 6)) (nI (sk_c h i 6), b1, b2, b3, a4, a5, a6, a7)) : wpX_store post (f, a1, a2, a3, a4, a5, a6, a7) (nI t) := by
  obtain ⟨n1, n2, n3⟩ := N
  subst n1
  refine pk_loop (fun n x s => wX_store_2 post (nI t) (nI (sk_c h i 6)) n (nI x) s a2 a3 a4 a5 a6 a7) (fun x s => (∀ r, r < x → s (t * 7 + r) = nI (sk_c h i r)) ∧ (∀ k, (k < t * 7 ∨ t * 7 + 7 ≤ k) → s k = a1 k)) 7 0 a1 (by omega) ⟨fun r hr => absurd hr (by omega), fun _ _ => rfl⟩ ?_ ?_
  · intro n s g
    refine pk_lt 6 7 (fun _ => sk_st33 ht hi hj (fun z => n3 z hi) (fun b2 b3 u v => H s b2 b3 ⟨g.1, u⟩ ⟨g.2, v⟩)) (fun z => absurd z (by omega))
  · intro n x s hx g hw
    refine pk_lt 6 x (fun z => absurd z (by omega)) (fun _ => ⟨pk_in x 7 hx, pk_in (t * 7 + x) 35 (by omega) (sk_7 t x), nm_r (e' := upd s (t * 7 + x) (nI (sk_c h i x))) ?_ (nm_r (nI_1 x) (hw _ ⟨fun r hr => ?_, fun k hk => ?_⟩))⟩)
    · rw [sk_7, nI_clamp (by omega), nI_clamp (by omega), n2 x (by omega), sk_vb (by have := sk_cle h i x; omega)]
    · by_cases e : r = x
      · rw [e, pk_us]
      · rw [pk_un (by omega)]
        exact g.1 r (by omega)
    · rw [pk_un (by omega)]
      exact g.2 k hk
end
section
theorem sk_p101 {post : Int32 → St2 → Prop} {J : Int32 → Int32 → (Nat → Int32) → (Nat → Int32) → (Nat → Int32) → (Nat → Int32) → (Nat → Int32) → (Nat → Int32) → (Nat → Int32) → Prop} {p1 p2 p3 p4 f v : Int32} {x i j : Nat} {a1 a2 a3 a4 a5 a6 a7 : Nat → Int32} (hx : x < 6) (hj : j < 6) (N : sk_N f a4 a5 a6 x i j v)
    (hz : ∀ k, k < 6 → (x = i → k ≠ j) → a7 k = 0) (hv : x = i → a7 j = v) (H : ∀ g b4 b5 b6, sk_N g b4 b5 b6 (x + 1) i j v → J (nI (x + 1)) g a1 a2 a3 b4 b5 b6 a7) :
    wX_put_101 post J p1 p2 p3 p4 (nI x) f a1 a2 a3 a4 a5 a6 a7 := by
  unfold wX_put_101
  by_cases e : v = 0 ∨ x ≠ i
  · refine sk_ew0 (fun k hk => ?_) (sk_end hx (nm_r (nI_1 x) (H _ _ _ _ (sk_Na N e))))
    by_cases q : x = i ∧ k = j
    · rw [q.2, hv q.1]
      exact e.resolve_right (fun t => t q.1)
    · exact hz k hk (fun t r => q ⟨t, r⟩)
  · have z : ¬ v = 0 := fun t => e (Or.inl t)
    have q : x = i := Decidable.byContradiction (fun t => e (Or.inr t))
    subst q
    have n1 := N.1
    rw [sk_clo (Nat.le_refl _)] at n1
    subst n1
    exact sk_ew1 hj z (hv rfl) (fun k hk g => hz k hk (fun _ => g)) (sk_end hx (nm_r (nI_1 x) (H _ _ _ _ (sk_Nb N z))))
theorem sk_put {post : Int32 → St2 → Prop} {f v : Int32} {s i j : Nat} {a1 a2 a3 a4 a5 a6 a7 : Nat → Int32} (hs : s < 5) (hi : i < 6) (hj : j < 6) (M : sk_M a1 a2 a3 s 0 0 0)
    (H : ∀ g b1 b2 b3 b4 b5 b6 b7, sk_M b1 b2 b3 s i j v → sk_K s a1 a2 a3 b1 b2 b3 → post 1 (g, b1, b2, b3, b4, b5, b6, b7)) :
    wpX_put post (f, a1, a2, a3, a4, a5, a6, a7) (nI s) (nI i) (nI j) v := by
  unfold wpX_put
  dsimp only
  refine sk_slot hs (br_f sk_10 (sk_index hi (br_f sk_10 (sk_index hj (br_f sk_10 (nm_e ?_))))))
  refine pk_loop (σ := Int32 × (Nat → Int32) × (Nat → Int32) × (Nat → Int32) × (Nat → Int32)) (fun n x w => wX_put_30 post (nI s) (nI i) (nI j) v n (nI x) w.1 a1 a2 a3 w.2.1 w.2.2.1 w.2.2.2.1 w.2.2.2.2) (fun x w => sk_N w.1 w.2.1 w.2.2.1 w.2.2.2.1 x i j v) 6 0 (0, upd a4 0 0, a5, a6, a7) (by omega) (sk_N0 i j v) ?_ ?_
  · intro n w N
    exact pk_le 6 6 (fun _ => sk_store hs hi hj N (fun b1 b2 b3 m k => H _ _ _ _ _ _ _ _ m k)) (fun z => absurd z (by omega))
  · intro n x w hx N hg
    refine pk_le 6 x (fun z => absurd z (by omega)) (fun _ => sk_clear (fun b hb => sk_from M hs hx ⟨n + 1, ?_⟩))
    unfold wX_put_50
    refine sk_upTo M hs hx (pk_le (s * 36 + sk_c 0 0 (x + 1)) (s * 36 + sk_c 0 0 x) (fun _ => ?_) (fun z => absurd z ?_) rfl rfl ?_ ?_)
    · refine pk_eq x i (fun e => ⟨pk_in j 6 hj, nm_r (e' := upd b j v) (by rw [nI_clamp (by omega)]) ?_⟩) (fun e => ?_)
      · exact sk_p101 hx hj N (fun k hk g => by rw [pk_un (g e)]; exact hb k hk) (fun _ => pk_us) (fun g b4 b5 b6 N' => hg (g, b4, b5, b6, upd b j v) N')
      · exact sk_p101 hx hj N (fun k hk _ => hb k hk) (fun g => absurd g e) (fun g b4 b5 b6 N' => hg (g, b4, b5, b6, b) N')
    · rw [sk_c0, sk_c0]
      omega
    · rw [sk_c0]
      omega
    · rw [sk_c0]
      omega
theorem sk_s39e {post : Int32 → St2 → Prop} {J : Int32 → Int32 → (Nat → Int32) → (Nat → Int32) → (Nat → Int32) → (Nat → Int32) → (Nat → Int32) → (Nat → Int32) → (Nat → Int32) → Prop} {p1 k f h : Int32} {n s i j x c : Nat} {a1 a2 a3 a4 a5 a6 a7 : Nat → Int32} (M : sk_M a1 a2 a3 s i j h) (hs : s < 5) (hx : x < 6) (hc : c = sk_c h i (x + 1))
    (H : J (nI (x + 1)) f a1 a2 a3 (upd a4 (x + 1) f.toInt8.toInt32) a5 a6 a7) : wX_scale_39 post J p1 (nI s) k (nI x) (n + 1) (nI (s * 36 + c)) f a1 a2 a3 a4 a5 a6 a7 := by
  subst hc
  unfold wX_scale_39
  exact sk_upTo M hs hx (br_t (nI_le (b := s * 36 + sk_c h i (x + 1)) (Nat.le_refl _) (by have := sk_cle h i (x + 1); omega)) (sk_end hx (nm_r (nI_1 x) H)))
theorem sk_scale {post : Int32 → St2 → Prop} {f h k : Int32} {s i j : Nat} {a1 a2 a3 a4 a5 a6 a7 : Nat → Int32} (hs : s < 5) (hi : i < 6) (hj : j < 6) (M : sk_M a1 a2 a3 s i j h)
    (H : ∀ g b1 b2 b3 b4 b5 b6 b7, sk_M b1 b2 b3 1 i j (h * k) → sk_K 1 a1 a2 a3 b1 b2 b3 → post (nI (sk_c (h * k) i 6)) (g, b1, b2, b3, b4, b5, b6, b7)) :
    wpX_scale post (f, a1, a2, a3, a4, a5, a6, a7) 1 (nI s) k := by
  unfold wpX_scale
  dsimp only
  refine sk_slot (s := 1) (by omega) (br_f sk_10 (sk_slot hs (br_f sk_10 (nm_e ?_))))
  refine pk_loop (σ := Int32 × (Nat → Int32) × (Nat → Int32) × (Nat → Int32)) (fun n x w => wX_scale_23 post 1 (nI s) k n (nI x) w.1 a1 a2 a3 w.2.1 w.2.2.1 w.2.2.2 a7) (fun x w => sk_N w.1 w.2.1 w.2.2.1 w.2.2.2 x i j (h * k)) 6 0 (0, upd a4 0 0, a5, a6) (by omega) (sk_N0 i j (h * k)) ?_ ?_
  · intro n w N
    exact pk_le 6 6 (fun _ => sk_store (t := 1) (by omega) hi hj N (fun b1 b2 b3 m k => H _ _ _ _ _ _ _ _ m k)) (fun z => absurd z (by omega))
  · intro n x w hx N hg
    refine pk_le 6 x (fun z => absurd z (by omega)) (fun _ => sk_from M hs hx ?_)
    by_cases e : h = 0 ∨ x ≠ i
    · have e' : h * k = 0 ∨ x ≠ i := e.imp (fun t => by rw [t, Int32.zero_mul]) id
      exact ⟨n + 1, sk_s39e M hs hx (sk_csame e).symm (hg (w.1, upd w.2.1 (x + 1) w.1.toInt8.toInt32, w.2.2.1, w.2.2.2) (sk_Na N e'))⟩
    · have z : ¬ h = 0 := fun t => e (Or.inl t)
      have q : x = i := Decidable.byContradiction (fun t => e (Or.inr t))
      subst q
      obtain ⟨m1, m2⟩ := M.2 z
      have c1 : sk_c h x (x + 1) = 1 := sk_chi z (by omega)
      rw [sk_clo (Nat.le_refl _)]
      refine ⟨n + 1 + 1, ?_⟩
      unfold wX_scale_39
      refine sk_upTo M hs hx ?_
      rw [c1]
      refine pk_le (s * 36 + 1) (s * 36 + 0) (fun t => absurd t (by omega)) (fun _ => ⟨pk_in (s * 36 + 0) 180 (by omega), pk_in (s * 36 + 0) 180 (by omega), ?_⟩)
      rw [nI_clamp (by omega), Nat.add_zero, m1, m2]
      by_cases y : h * k = 0
      · exact sk_emit0 y (nm_r (nI_1 (s * 36)) (sk_s39e M hs hx c1.symm (hg (w.1, upd w.2.1 (x + 1) w.1.toInt8.toInt32, w.2.2.1, w.2.2.2) (sk_Na N (Or.inl y)))))
      · obtain ⟨f', b4, b5, b6⟩ := w
        have n1 : f' = nI (sk_c (h * k) x x) := N.1
        rw [sk_clo (Nat.le_refl _)] at n1
        subst n1
        refine sk_emit1 y (nm_r (nI_1 (s * 36)) ?_)
        rw [sk_nb j (by omega)]
        exact sk_s39e M hs hx c1.symm (hg (nI 1, upd b4 (x + 1) (nI 1).toInt8.toInt32, upd b5 0 (nI j), upd b6 0 (h * k)) (sk_Nb N y))
end
section
theorem sk_find1 {post : Int32 → Prop} {f h : Int32} {s i j : Nat} {a1 a2 a3 a4 a5 a6 a7 : Nat → Int32} (hs : s < 5) (hi : i < 6) (M : sk_M a1 a2 a3 s i j h) (z : ¬ h = 0) (H : post (nI (s * 36))) :
    wpX_find post (f, a1, a2, a3, a4, a5, a6, a7) (nI s) (nI i) (nI j) := by
  unfold wpX_find
  dsimp only
  have n : Nat := 0
  refine sk_from M hs hi (sk_upTo M hs hi ?_)
  rw [sk_clo (Nat.le_refl _), sk_chi z (by omega)]
  refine nm_r (nI_pred (s * 36)) ⟨n + 1, pk_le 4 0 (fun t => absurd t (by omega)) (fun _ => pk_lt (s * 36) (s * 36) (fun t => absurd t (by omega)) (fun _ => nm_r (e' := nI (s * 36)) ?_ ⟨pk_in (s * 36) 180 (by omega), br_t ?_ H⟩))⟩
  · rw [Nat.add_zero, nI_add, pk_shrN (by omega) _ 1 (by decide), show (s * 36 + s * 36) / 2 ^ 1 = s * 36 by omega]
  · rw [nI_clamp (by omega)]
    exact (M.2 z).1
theorem sk_find0 {post : Int32 → Prop} {f h y : Int32} {s i j r : Nat} {a1 a2 a3 a4 a5 a6 a7 : Nat → Int32} (hs : s < 5) (hr : r < 6) (M : sk_M a1 a2 a3 s i j h) (z : h = 0 ∨ r ≠ i ∨ ¬ nI j = y) (H : post (-1)) :
    wpX_find post (f, a1, a2, a3, a4, a5, a6, a7) (nI s) (nI r) y := by
  unfold wpX_find
  dsimp only
  have n : Nat := 0
  refine sk_from M hs hr (sk_upTo M hs hr ?_)
  by_cases e : h = 0 ∨ r ≠ i
  · rw [sk_csame e]
    exact nm_e ⟨n + 1, pk_le 4 0 (fun t => absurd t (by omega)) (fun _ => br_t (sk_pm _ (by have := sk_cle h i r; omega)) H)⟩
  · have z0 : ¬ h = 0 := fun t => e (Or.inl t)
    have q : r = i := Decidable.byContradiction (fun t => e (Or.inr t))
    have zy : ¬ nI j = y := (z.resolve_left z0).resolve_left (fun t => t q)
    subst q
    obtain ⟨m1, m2⟩ := M.2 z0
    rw [sk_clo (Nat.le_refl _), sk_chi z0 (by omega)]
    refine nm_r (nI_pred (s * 36)) ⟨n + 1 + 1, pk_le 4 0 (fun t => absurd t (by omega)) (fun _ => pk_lt (s * 36) (s * 36) (fun t => absurd t (by omega)) (fun _ => nm_r (e' := nI (s * 36)) ?_ ⟨pk_in (s * 36) 180 (by omega), ?_⟩))⟩
    · rw [Nat.add_zero, nI_add, pk_shrN (by omega) _ 1 (by decide), show (s * 36 + s * 36) / 2 ^ 1 = s * 36 by omega]
    · rw [nI_clamp (by omega), m1]
      refine br_f zy ⟨pk_in (s * 36) 180 (by omega), br_c (fun _ => nm_e (nm_r (nI_1 0) ?_)) (fun _ => nm_r (nI_1 (s * 36)) (nm_r (nI_1 0) ?_))⟩
      · exact pk_le 4 1 (fun t => absurd t (by omega)) (fun _ => br_t (sk_pm _ (by omega)) H)
      · exact pk_le 4 1 (fun t => absurd t (by omega)) (fun _ => br_t (nI_lt (by omega) (by omega)) H)
theorem sk_at1 {post : Int32 → Prop} {f h : Int32} {s i j : Nat} {a1 a2 a3 a4 a5 a6 a7 : Nat → Int32} (hs : s < 5) (hi : i < 6) (hj : j < 6) (M : sk_M a1 a2 a3 s i j h) (H : post h) :
    wpX_at post (f, a1, a2, a3, a4, a5, a6, a7) (nI s) (nI i) (nI j) := by
  unfold wpX_at
  dsimp only
  refine sk_slot hs (br_f sk_10 (sk_index hi (br_f sk_10 (sk_index hj (br_f sk_10 ?_)))))
  by_cases z : h = 0
  · refine sk_find0 hs hi M (Or.inl z) (br_f (by decide) ?_)
    rw [← z]
    exact H
  · refine sk_find1 hs hi M z (br_t (nI_pos' (by omega)) ⟨pk_in (s * 36) 180 (by omega), ?_⟩)
    rw [nI_clamp (by omega), (M.2 z).2]
    exact H
theorem sk_at0 {post : Int32 → Prop} {f x y : Int32} {s i j : Nat} {a1 a2 a3 a4 a5 a6 a7 : Nat → Int32} (hs : s < 5) (M : sk_M a1 a2 a3 s i j 0) (H : post 0) :
    wpX_at post (f, a1, a2, a3, a4, a5, a6, a7) (nI s) x y := by
  unfold wpX_at
  dsimp only
  refine sk_slot hs (br_f sk_10 ?_)
  rcases sk_ix x (n := 6) (by decide) with ⟨x', hx, ex⟩ | hx
  · subst ex
    refine sk_index hx (br_f sk_10 ?_)
    rcases sk_ix y (n := 6) (by decide) with ⟨y', hy, ey⟩ | hy
    · subst ey
      exact sk_index hy (br_f sk_10 (sk_find0 hs hx M (Or.inl rfl) (br_f (by decide) H)))
    · exact sk_nindex hy (br_t rfl H)
  · exact sk_nindex hx (br_t rfl H)
theorem sk_next {post : Int32 → Prop} {f h k : Int32} {s i j r : Nat} {a1 a2 a3 a4 a5 a6 a7 : Nat → Int32} (hs : s < 5) (hr : r < 6) (M : sk_M a1 a2 a3 s i j h) (H : post (if h = 0 ∨ r ≠ i ∨ nI j < k then -1 else nI j)) :
    wpX_next post (f, a1, a2, a3, a4, a5, a6, a7) (nI s) (nI r) k := by
  unfold wpX_next
  dsimp only
  have n : Nat := 0
  refine sk_slot hs (br_f sk_10 (sk_index hr (br_f sk_10 (sk_from M hs hr ?_))))
  by_cases e : h = 0 ∨ r ≠ i
  · rw [if_pos (e.imp id Or.inl)] at H
    refine ⟨n + 1, ?_⟩
    unfold wX_next_24
    refine sk_upTo M hs hr (br_t ?_ H)
    rw [sk_csame e]
    exact nI_le (Nat.le_refl _) (by have := sk_cle h i r; omega)
  · have z0 : ¬ h = 0 := fun t => e (Or.inl t)
    have q : r = i := Decidable.byContradiction (fun t => e (Or.inr t))
    subst q
    obtain ⟨m1, m2⟩ := M.2 z0
    rw [sk_clo (Nat.le_refl _)]
    refine ⟨n + 1 + 1, ?_⟩
    unfold wX_next_24
    refine sk_upTo M hs hr ?_
    rw [sk_chi z0 (by omega)]
    refine pk_le (s * 36 + 1) (s * 36 + 0) (fun t => absurd t (by omega)) (fun _ => ⟨pk_in (s * 36 + 0) 180 (by omega), ?_⟩)
    rw [nI_clamp (by omega), Nat.add_zero, m1]
    refine br_c (fun g => nm_r (nI_1 (s * 36)) ?_) (fun g => ⟨pk_in (s * 36) 180 (by omega), ?_⟩)
    · rw [if_pos (Or.inr (Or.inr g))] at H
      unfold wX_next_24
      refine sk_upTo M hs hr (br_t ?_ H)
      rw [sk_chi z0 (by omega)]
      exact nI_le (Nat.le_refl _) (by omega)
    · rw [if_neg (fun t => t.elim z0 (fun t => t.elim (fun t => t rfl) g))] at H
      exact H
theorem sk_next0 {post : Int32 → Prop} {f x k : Int32} {s i j : Nat} {a1 a2 a3 a4 a5 a6 a7 : Nat → Int32} (hs : s < 5) (M : sk_M a1 a2 a3 s i j 0) (H : post (-1)) :
    wpX_next post (f, a1, a2, a3, a4, a5, a6, a7) (nI s) x k := by
  rcases sk_ix x (n := 6) (by decide) with ⟨x', hx, ex⟩ | hx
  · subst ex
    exact sk_next hs hx M (by rw [if_pos (Or.inl rfl)]; exact H)
  · unfold wpX_next
    dsimp only
    exact sk_slot hs (br_f sk_10 (sk_nindex hx (br_t rfl H)))
theorem sk_s52e {post : Int32 → Prop} {J : Int32 → Int32 → Prop} {p2 p3 f h t : Int32} {n s i j x c : Nat} {a1 a2 a3 a4 a5 a6 a7 : Nat → Int32} (M : sk_M a1 a2 a3 s i j h) (hs : s < 5) (hx : x < 6) (hc : c = sk_c h i (x + 1)) (H : J t (nI (x + 1))) :
    wX_sum_52 post J (nI s) p2 p3 (nI x) f a1 a2 a3 a4 a5 a6 a7 (n + 1) t (nI (s * 36 + c)) := by
  subst hc
  unfold wX_sum_52
  exact sk_upTo M hs hx (br_t (nI_le (b := s * 36 + sk_c h i (x + 1)) (Nat.le_refl _) (by have := sk_cle h i (x + 1); omega)) (nm_r (nI_1 x) H))
theorem sk_sum {post : Int32 → Prop} {f h : Int32} {s i j y : Nat} {a1 a2 a3 a4 a5 a6 a7 : Nat → Int32} (hs : s < 5) (hi : i < 6) (hj : j < 6) (hy : y < 6) (M : sk_M a1 a2 a3 s i j h) (H : post (if y = j then h else 0)) :
    wpX_sum post (f, a1, a2, a3, a4, a5, a6, a7) (nI s) 1 (nI y) := by
  unfold wpX_sum
  dsimp only
  refine sk_slot hs (br_f sk_10 (br_f (by decide) (br_f (by decide) (br_f (by decide) (sk_index hy (br_f sk_10 ?_))))))
  refine pk_loop (σ := Int32) (fun n x t => wX_sum_36 post (nI s) 1 (nI y) f a1 a2 a3 a4 a5 a6 a7 n t (nI x)) (fun x t => t = if i < x then (if y = j then h else 0) else 0) 6 0 0 (by omega) (by rw [if_neg (by omega)]) ?_ ?_
  · intro n t g
    rw [if_pos hi] at g
    subst g
    exact pk_le 6 6 (fun _ => H) (fun z => absurd z (by omega))
  · intro n x t hx g hg
    refine pk_le 6 x (fun z => absurd z (by omega)) (fun _ => sk_from M hs hx ?_)
    by_cases e : h = 0 ∨ x ≠ i
    · refine ⟨n + 1, sk_s52e M hs hx (sk_csame e).symm (hg t ?_)⟩
      rw [g]
      by_cases z : h = 0
      · rw [z, ite_self, ite_self, ite_self]
      · have e' : x ≠ i := e.resolve_left z
        by_cases w : i < x
        · rw [if_pos w, if_pos (show i < x + 1 by omega)]
        · rw [if_neg w, if_neg (show ¬ i < x + 1 by omega)]
    · have z : ¬ h = 0 := fun t => e (Or.inl t)
      have q : x = i := Decidable.byContradiction (fun t => e (Or.inr t))
      subst q
      obtain ⟨m1, m2⟩ := M.2 z
      have c1 : sk_c h x (x + 1) = 1 := sk_chi z (by omega)
      rw [if_neg (by omega)] at g
      subst g
      rw [sk_clo (Nat.le_refl _)]
      refine ⟨n + 1 + 1, ?_⟩
      unfold wX_sum_52
      refine sk_upTo M hs hx ?_
      rw [c1]
      refine pk_le (s * 36 + 1) (s * 36 + 0) (fun t => absurd t (by omega)) (fun _ => br_f sk_10 (br_t rfl ⟨pk_in (s * 36 + 0) 180 (by omega), ?_⟩))
      rw [nI_clamp (by omega), Nat.add_zero, m1]
      refine pk_eq j y (fun w => ?_) (fun w => ?_)
      · refine br_f sk_10 ⟨pk_in (s * 36) 180 (by omega), nm_r (e' := h) ?_ (nm_r (nI_1 (s * 36)) (sk_s52e M hs hx c1.symm (hg h ?_)))⟩
        · rw [nI_clamp (by omega), m2, Int32.zero_add]
        · rw [if_pos (by omega), if_pos w.symm]
      · refine br_t rfl (nm_r (e' := 0) (by decide) (nm_r (nI_1 (s * 36)) (sk_s52e M hs hx c1.symm (hg 0 ?_))))
        rw [if_pos (by omega), if_neg (fun v => w v.symm)]
theorem sk_sum0 {post : Int32 → Prop} {f y : Int32} {s i j : Nat} {a1 a2 a3 a4 a5 a6 a7 : Nat → Int32} (hs : s < 5) (hi : i < 6) (hj : j < 6) (M : sk_M a1 a2 a3 s i j 0) (H : post 0) :
    wpX_sum post (f, a1, a2, a3, a4, a5, a6, a7) (nI s) 1 y := by
  rcases sk_ix y (n := 6) (by decide) with ⟨y', hy, ey⟩ | hy
  · subst ey
    exact sk_sum hs hi hj hy M (by rw [ite_self]; exact H)
  · unfold wpX_sum
    dsimp only
    exact sk_slot hs (br_f sk_10 (br_f (by decide) (br_f (by decide) (br_f (by decide) (sk_nindex hy (br_t rfl H))))))
theorem sk_y24e {post : Int32 → Prop} {J : Int32 → Prop} {f h : Int32} {n s i j x c : Nat} {a1 a2 a3 a4 a5 a6 a7 : Nat → Int32} (M : sk_M a1 a2 a3 s i j h) (hs : s < 5) (hx : x < 6) (hc : c = sk_c h i (x + 1)) (H : J (nI (x + 1))) :
    wX_symmetric_24 post J (nI s) (nI x) f a1 a2 a3 a4 a5 a6 a7 (n + 1) (nI (s * 36 + c)) := by
  subst hc
  unfold wX_symmetric_24
  exact sk_upTo M hs hx (br_t (nI_le (b := s * 36 + sk_c h i (x + 1)) (Nat.le_refl _) (by have := sk_cle h i (x + 1); omega)) (nm_r (nI_1 x) H))
theorem sk_sym1 {post : Int32 → Prop} {f h : Int32} {s i j : Nat} {a1 a2 a3 a4 a5 a6 a7 : Nat → Int32} (hs : s < 5) (hi : i < 6) (hj : j < 6) (M : sk_M a1 a2 a3 s i j h) (y : h = 0 ∨ i = j) (H : post 1) :
    wpX_symmetric post (f, a1, a2, a3, a4, a5, a6, a7) (nI s) := by
  unfold wpX_symmetric
  dsimp only
  refine sk_slot hs (br_f sk_10 ?_)
  refine pk_loop (σ := Unit) (fun n x _ => wX_symmetric_11 post (nI s) f a1 a2 a3 a4 a5 a6 a7 n (nI x)) (fun _ _ => True) 6 0 () (by omega) trivial ?_ ?_
  · intro n _ _
    exact pk_le 6 6 (fun _ => H) (fun z => absurd z (by omega))
  · intro n x _ hx _ hg
    refine pk_le 6 x (fun z => absurd z (by omega)) (fun _ => sk_from M hs hx ?_)
    by_cases e : h = 0 ∨ x ≠ i
    · exact ⟨n + 1, sk_y24e M hs hx (sk_csame e).symm (hg () trivial)⟩
    · have z : ¬ h = 0 := fun t => e (Or.inl t)
      have q : x = i := Decidable.byContradiction (fun t => e (Or.inr t))
      subst q
      have q : x = j := y.resolve_left z
      subst q
      obtain ⟨m1, m2⟩ := M.2 z
      have c1 : sk_c h x (x + 1) = 1 := sk_chi z (by omega)
      rw [sk_clo (Nat.le_refl _)]
      refine ⟨n + 1 + 1, ?_⟩
      unfold wX_symmetric_24
      refine sk_upTo M hs hx ?_
      rw [c1]
      refine pk_le (s * 36 + 1) (s * 36 + 0) (fun t => absurd t (by omega)) (fun _ => ⟨pk_in (s * 36 + 0) 180 (by omega), ?_⟩)
      rw [nI_clamp (by omega), Nat.add_zero, m1]
      exact sk_find1 hs hx M z (br_f (nI_pos (by omega)) ⟨pk_in (s * 36) 180 (by omega), pk_in (s * 36) 180 (by omega), br_t (congrArg a3 (nI_clamp (show s * 36 < 2 ^ 31 by omega))) (nm_r (nI_1 (s * 36)) (sk_y24e M hs hx c1.symm (hg () trivial)))⟩)
theorem sk_sym0 {post : Int32 → Prop} {f h : Int32} {s i j : Nat} {a1 a2 a3 a4 a5 a6 a7 : Nat → Int32} (hs : s < 5) (hi : i < 6) (hj : j < 6) (M : sk_M a1 a2 a3 s i j h) (z : ¬ h = 0) (y : ¬ i = j) (H : post 0) :
    wpX_symmetric post (f, a1, a2, a3, a4, a5, a6, a7) (nI s) := by
  unfold wpX_symmetric
  dsimp only
  refine sk_slot hs (br_f sk_10 ?_)
  refine pk_loop (σ := Unit) (fun n x _ => wX_symmetric_11 post (nI s) f a1 a2 a3 a4 a5 a6 a7 n (nI x)) (fun _ _ => True) i 0 () (by omega) trivial ?_ ?_
  · intro n _ _
    refine pk_le 6 i (fun z => absurd z (by omega)) (fun _ => sk_from M hs hi ?_)
    obtain ⟨m1, m2⟩ := M.2 z
    rw [sk_clo (Nat.le_refl _)]
    refine ⟨n + 1 + 1, ?_⟩
    unfold wX_symmetric_24
    refine sk_upTo M hs hi ?_
    rw [sk_chi z (by omega)]
    refine pk_le (s * 36 + 1) (s * 36 + 0) (fun t => absurd t (by omega)) (fun _ => ⟨pk_in (s * 36 + 0) 180 (by omega), ?_⟩)
    rw [nI_clamp (by omega), Nat.add_zero, m1]
    exact sk_find0 hs hj M (Or.inr (Or.inl (fun t => y t.symm))) (br_t (by decide) H)
  · intro n x _ hx _ hg
    exact pk_le 6 x (fun z => absurd z (by omega)) (fun _ => sk_from M hs (by omega) ⟨n + 1, sk_y24e M hs (by omega) (sk_csame (Or.inr (by omega))).symm (hg () trivial)⟩)
end
section
theorem sk_t226 {post : Int32 → St0 → Prop} {mc ms kc ks : Nat} {x1 x2 x11 x12 x13 x15 z0 z1 : Int32} (e : z1 = z0) (e11 : x11 = if x12 = 0 then 0 else if x13 = 0 then 1 else if x15 = 0 then 1 else if x1 = x2 then 1 else 0) (H : post 1 ()) :
    wL_lawOf_226 post mc ms x1 x2 x11 x12 x13 x15 z0 z1 kc ks := by
  refine br_t e (br_c (fun a => ?_) (fun a => br_c (fun b => ?_) (fun b => br_c (fun c => ?_) (fun c => br_c (fun d => ?_) (fun d => ?_)))))
  · rw [if_pos a] at e11
    exact br_t e11 H
  · rw [if_neg a, if_pos b] at e11
    exact br_t e11 H
  · rw [if_neg a, if_neg b, if_pos c] at e11
    exact br_t e11 H
  · rw [if_neg a, if_neg b, if_neg c, if_pos d] at e11
    exact br_t e11 H
  · rw [if_neg a, if_neg b, if_neg c, if_neg d] at e11
    exact br_t e11 H
theorem sk_t210 {post : Int32 → St0 → Prop} {mc ms kc ks : Nat} {x1 x2 x10 x11 x12 x13 x15 z0 z1 : Int32} (e : z1 = z0) (e10 : x10 = if x13 = 0 then 0 else x15) (e11 : x11 = if x12 = 0 then 0 else if x13 = 0 then 1 else if x15 = 0 then 1 else if x1 = x2 then 1 else 0) (H : post 1 ()) :
    wL_lawOf_210 post mc ms x1 x2 x10 x11 x12 x13 x15 z0 z1 kc ks := by
  refine br_t e (br_c (fun a => sk_t226 ?_ e11 H) (fun a => sk_t226 ?_ e11 H))
  · rw [e10, if_pos a]
  · rw [e10, if_neg a]
theorem sk_t184 {post : Int32 → St0 → Prop} {mc ms kc ks : Nat} {x1 x2 x4 x9 x10 x11 x12 x13 x15 z0 z1 : Int32} (e : z1 = z0) (e9 : x9 = if x13 = 0 then -1 else if x15 = 0 then -1 else if x2 < x4 then -1 else x2) (e10 : x10 = if x13 = 0 then 0 else x15)
    (e11 : x11 = if x12 = 0 then 0 else if x13 = 0 then 1 else if x15 = 0 then 1 else if x1 = x2 then 1 else 0) (H : post 1 ()) :
    wL_lawOf_184 post mc ms x1 x2 x4 x9 x10 x11 x12 x13 x15 z0 z1 kc ks := by
  refine br_t e (br_c (fun a => ?_) (fun a => br_c (fun b => ?_) (fun b => br_c (fun c => ?_) (fun c => ?_))))
  · exact sk_t210 (by rw [e9, if_pos a]) e10 e11 H
  · exact sk_t210 (by rw [e9, if_neg a, if_pos b]) e10 e11 H
  · exact sk_t210 (by rw [e9, if_neg a, if_neg b, if_pos c]) e10 e11 H
  · exact sk_t210 (by rw [e9, if_neg a, if_neg b, if_neg c]) e10 e11 H
theorem sk_t168 {post : Int32 → St0 → Prop} {mc ms kc ks : Nat} {x1 x2 x4 x8 x9 x10 x11 x12 x13 x14 x15 z0 z1 : Int32} (e : z1 = z0) (e8 : x8 = if x13 = 0 then 0 else x14) (e9 : x9 = if x13 = 0 then -1 else if x15 = 0 then -1 else if x2 < x4 then -1 else x2) (e10 : x10 = if x13 = 0 then 0 else x15)
    (e11 : x11 = if x12 = 0 then 0 else if x13 = 0 then 1 else if x15 = 0 then 1 else if x1 = x2 then 1 else 0) (H : post 1 ()) :
    wL_lawOf_168 post mc ms x1 x2 x4 x8 x9 x10 x11 x12 x13 x14 x15 z0 z1 kc ks := by
  refine br_t e (br_c (fun a => ?_) (fun a => ?_))
  · exact sk_t184 (by rw [e8, if_pos a]) e9 e10 e11 H
  · exact sk_t184 (by rw [e8, if_neg a]) e9 e10 e11 H
theorem sk_t133 {post : Int32 → St0 → Prop} {mc ms kc ks : Nat} {x1 x2 x4 x6 x7 x8 x9 x10 x11 x12 x13 x14 x15 : Int32} (e6 : x6 = x13) (e7 : x7 = if x12 = 0 then -1 else if x13 = 0 then 0 else if x14 = 0 then 0 else 1) (e8 : x8 = if x13 = 0 then 0 else x14)
    (e9 : x9 = if x13 = 0 then -1 else if x15 = 0 then -1 else if x2 < x4 then -1 else x2) (e10 : x10 = if x13 = 0 then 0 else x15)
    (e11 : x11 = if x12 = 0 then 0 else if x13 = 0 then 1 else if x15 = 0 then 1 else if x1 = x2 then 1 else 0) (H : post 1 ()) :
    wL_lawOf_133 post mc ms x1 x2 x4 x6 x7 x8 x9 x10 x11 x12 x13 x14 x15 kc ks := by
  refine br_t e6 (br_c (fun a => ?_) (fun a => br_c (fun b => ?_) (fun b => br_c (fun c => ?_) (fun c => ?_))))
  · exact sk_t168 (by rw [e7, if_pos a]) e8 e9 e10 e11 H
  · exact sk_t168 (by rw [e7, if_neg a, if_pos b]) e8 e9 e10 e11 H
  · exact sk_t168 (by rw [e7, if_neg a, if_neg b, if_pos c]) e8 e9 e10 e11 H
  · exact sk_t168 (by rw [e7, if_neg a, if_neg b, if_neg c]) e8 e9 e10 e11 H
theorem sk_t114 {post : Int32 → St0 → Prop} {mc ms kc ks : Nat} {x0 x1 x2 x3 x4 x6 x7 x8 x9 x10 x11 x12 x13 x15 : Int32} (e15 : x15 = if x0 = 1 then x3 * x4 else x3) (e6 : x6 = x13) (e7 : x7 = if x12 = 0 then -1 else if x13 = 0 then 0 else if x3 * x4 = 0 then 0 else 1) (e8 : x8 = if x13 = 0 then 0 else x3 * x4)
    (e9 : x9 = if x13 = 0 then -1 else if x15 = 0 then -1 else if x2 < x4 then -1 else x2) (e10 : x10 = if x13 = 0 then 0 else x15)
    (e11 : x11 = if x12 = 0 then 0 else if x13 = 0 then 1 else if x15 = 0 then 1 else if x1 = x2 then 1 else 0) (H : post 1 ()) :
    wL_lawOf_114 post mc ms x0 x1 x2 x3 x4 x6 x7 x8 x9 x10 x11 x12 x13 kc ks := by
  refine nm_e (br_c (fun a => ?_) (fun a => ?_))
  · rw [if_pos a] at e15
    rw [← e15] at e7 e8 ⊢
    exact sk_t133 e6 e7 e8 e9 e10 e11 H
  · rw [if_neg a] at e15
    subst e15
    exact sk_t133 e6 e7 e8 e9 e10 e11 H
theorem sk_00 : (0 : Int32) = 0 := rfl
theorem sk_113 {post : Int32 → St0 → Prop} {mc ms kc ks : Nat} {x0 x1 x2 x3 x4 x7 x11 x12 : Int32} (e7 : x7 = if x12 = 0 then -1 else 0) (e11 : x11 = if x12 = 0 then 0 else 1) (H : post 1 ()) :
    wL_lawOf_113 post mc ms x0 x1 x2 x3 x4 0 x7 0 (-1) 0 x11 x12 kc ks := by
  refine sk_t114 (x13 := 0) rfl rfl ?_ ?_ ?_ ?_ ?_ H
  · rw [e7, if_pos sk_00]
  · rw [if_pos sk_00]
  · rw [if_pos sk_00]
  · rw [if_pos sk_00]
  · rw [e11, if_pos sk_00]
theorem sk_lt5 {x : Int32} (h : nI 5 ≤ x) : 4 < x := by
  rw [Int32.le_iff_toInt_le, nI_toInt (by decide)] at h
  rw [Int32.lt_iff_toInt_lt, show (4 : Int32).toInt = 4 from rfl]
  omega
theorem sk_lt6 {x : Int32} (h : nI 6 ≤ x) : 5 < x := by
  rw [Int32.le_iff_toInt_le, nI_toInt (by decide)] at h
  rw [Int32.lt_iff_toInt_lt, show (5 : Int32).toInt = 5 from rfl]
  omega
/-- x is no row and no column -/
def sk_B (x : Int32) : Prop := x < 0 ∨ (¬ x < 0 ∧ nI 6 ≤ x)
theorem sk_nB {x : Int32} (h : sk_B x) (a : ¬ x < 0) (b : ¬ 5 < x) : False :=
  h.elim a (fun t => b (sk_lt6 t.2))
theorem sk_84b {post : Int32 → St0 → Prop} {mc ms kc ks : Nat} {x0 x1 x2 x3 x4 : Int32} (hb : sk_B x1 ∨ sk_B x2) (H : post 1 ()) :
    wL_lawOf_84 post mc ms x0 x1 x2 x3 x4 0 0 0 (-1) 0 1 1 kc ks := by
  have G : wL_lawOf_113 post mc ms x0 x1 x2 x3 x4 0 0 0 (-1) 0 1 1 kc ks := sk_113 (by rw [if_neg sk_10]) (by rw [if_neg sk_10]) H
  exact br_f sk_10 (br_c (fun _ => G) (fun a => br_c (fun _ => G) (fun b => br_c (fun _ => G) (fun c => br_c (fun _ => G) (fun d => (hb.elim (fun t => sk_nB t a b) (fun t => sk_nB t c d)).elim)))))
theorem sk_84g {post : Int32 → St0 → Prop} {mc ms kc ks : Nat} {x0 v k h : Int32} {i j : Nat} (hi : i < 6) (hj : j < 6) (hh : h = if x0 = 1 then v * k else v) (H : post 1 ()) :
    wL_lawOf_84 post mc ms x0 (nI i) (nI j) v k 1 (nI (sk_c (v * k) i 6)) (v * k) (if h = 0 ∨ i ≠ i ∨ nI j < k then -1 else nI j) (if j = j then h else 0) (if h = 0 then 1 else if nI i = nI j then 1 else 0) 1 kc ks := by
  refine br_f sk_10 (br_f (nI_pos (by omega)) (br_f (nI_nlt (a := 5) (by omega) (by decide)) (br_f (nI_pos (by omega)) (br_f (nI_nlt (a := 5) (by omega) (by decide)) ?_))))
  refine sk_t114 (x13 := 1) hh rfl ?_ ?_ ?_ ?_ ?_ H
  · rw [if_neg sk_10, if_neg sk_10]
    by_cases z : v * k = 0
    · rw [sk_cz z, if_pos z]
      rfl
    · rw [sk_chi z hi, if_neg z]
      rfl
  · rw [if_neg sk_10]
  · rw [if_neg sk_10]
    by_cases z : h = 0
    · rw [if_pos (Or.inl z), if_pos z]
    · rw [if_neg z]
      by_cases g : nI j < k
      · rw [if_pos (Or.inr (Or.inr g)), if_pos g]
      · rw [if_neg (fun t => t.elim z (fun t => t.elim (fun t => t rfl) g)), if_neg g]
  · rw [if_neg sk_10, if_pos rfl]
  · rw [if_neg sk_10, if_neg sk_10]
end
section
theorem sk_init {post : St2 → Prop} {f : St1} (H : post (f, (fun _ => 0), (fun _ => 0), (fun _ => 0), (fun _ => 0), (fun _ => 0), (fun _ => 0), (fun _ => 0))) : wpX_init post 7 480 f :=
  ⟨by decide, by decide, by decide, by decide, by decide, by decide, by decide, by decide, by decide, by decide, by decide, by decide, by decide, by decide, H⟩
theorem sk_put0 {post : Int32 → St2 → Prop} {f x y v : Int32} {s : Nat} {a1 a2 a3 a4 a5 a6 a7 : Nat → Int32} (hs : s < 5) (hb : sk_B x ∨ sk_B y) (H : post 0 (f, a1, a2, a3, a4, a5, a6, a7)) :
    wpX_put post (f, a1, a2, a3, a4, a5, a6, a7) (nI s) x y v := by
  unfold wpX_put
  dsimp only
  refine sk_slot hs (br_f sk_10 ?_)
  rcases sk_ix x (n := 6) (by decide) with ⟨i, hi, e⟩ | b
  · rcases hb with b | b
    · exact sk_nindex b (br_t rfl H)
    · subst e
      exact sk_index hi (br_f sk_10 (sk_nindex b (br_t rfl H)))
  · exact sk_nindex b (br_t rfl H)
theorem sk_putN {post : Int32 → St2 → Prop} {f p x y v : Int32} {a1 a2 a3 a4 a5 a6 a7 : Nat → Int32} (hp : p < 0 ∨ (¬ p < 0 ∧ nI 5 ≤ p)) (H : post 0 (f, a1, a2, a3, a4, a5, a6, a7)) :
    wpX_put post (f, a1, a2, a3, a4, a5, a6, a7) p x y v := by
  unfold wpX_put
  dsimp only
  exact sk_nslot hp (br_t rfl H)
theorem sk_scaleN {post : Int32 → St2 → Prop} {f p k : Int32} {a1 a2 a3 a4 a5 a6 a7 : Nat → Int32} (hp : p < 0 ∨ (¬ p < 0 ∧ nI 5 ≤ p)) (H : post (-1) (f, a1, a2, a3, a4, a5, a6, a7)) :
    wpX_scale post (f, a1, a2, a3, a4, a5, a6, a7) 1 p k := by
  unfold wpX_scale
  dsimp only
  exact sk_slot (s := 1) (by omega) (br_f sk_10 (sk_nslot hp (br_t rfl H)))
theorem sk_nextN {post : Int32 → Prop} {f p x k : Int32} {a1 a2 a3 a4 a5 a6 a7 : Nat → Int32} (hp : p < 0 ∨ (¬ p < 0 ∧ nI 5 ≤ p)) (H : post (-1)) :
    wpX_next post (f, a1, a2, a3, a4, a5, a6, a7) p x k := by
  unfold wpX_next
  dsimp only
  exact sk_nslot hp (br_t rfl H)
theorem sk_sumN {post : Int32 → Prop} {f p x k : Int32} {a1 a2 a3 a4 a5 a6 a7 : Nat → Int32} (hp : p < 0 ∨ (¬ p < 0 ∧ nI 5 ≤ p)) (H : post 0) :
    wpX_sum post (f, a1, a2, a3, a4, a5, a6, a7) p x k := by
  unfold wpX_sum
  dsimp only
  exact sk_nslot hp (br_t rfl H)
theorem sk_symN {post : Int32 → Prop} {f p : Int32} {a1 a2 a3 a4 a5 a6 a7 : Nat → Int32} (hp : p < 0 ∨ (¬ p < 0 ∧ nI 5 ≤ p)) (H : post 0) :
    wpX_symmetric post (f, a1, a2, a3, a4, a5, a6, a7) p := by
  unfold wpX_symmetric
  dsimp only
  exact sk_nslot hp (br_t rfl H)
theorem sk_sym {post : Int32 → Prop} {f h : Int32} {s i j : Nat} {a1 a2 a3 a4 a5 a6 a7 : Nat → Int32} (hs : s < 5) (hi : i < 6) (hj : j < 6) (M : sk_M a1 a2 a3 s i j h) (H : post (if h = 0 then 1 else if nI i = nI j then 1 else 0)) :
    wpX_symmetric post (f, a1, a2, a3, a4, a5, a6, a7) (nI s) := by
  by_cases z : h = 0
  · rw [if_pos z] at H
    exact sk_sym1 hs hi hj M (Or.inl z) H
  · rw [if_neg z] at H
    by_cases y : i = j
    · rw [if_pos (by rw [y])] at H
      exact sk_sym1 hs hi hj M (Or.inr y) H
    · rw [if_neg (fun t => y ((nI_eq (by omega) (by omega)).mp t))] at H
      exact sk_sym0 hs hi hj M z y H
theorem sk_is1 {s : Nat} (hs : s < 5) : nI s = 1 ↔ s = 1 := nI_eq (b := 1) (by omega) (by decide)
theorem sk_lawOf {post : Int32 → St0 → Prop} {p0 p1 p2 p3 p4 : Int32} (H : post 1 ()) : wpL_lawOf post 8 488 () p0 p1 p2 p3 p4 := by
  unfold wpL_lawOf
  refine ⟨by decide, by decide, 7, 480, by decide, by decide, sk_init ?_⟩
  dsimp only
  rcases sk_ix p0 (n := 5) (by decide) with ⟨s, hs, e0⟩ | h0
  · subst e0
    by_cases hb : sk_B p1 ∨ sk_B p2
    · refine sk_put0 hs hb ?_
      refine sk_scale hs (i := 0) (j := 0) (by omega) (by omega) (sk_zero s) ?_
      intro g c1 c2 c3 c4 c5 c6 c7 M1 K1
      rw [Int32.zero_mul] at M1
      rw [Int32.zero_mul, sk_c0]
      have Ms : sk_M c1 c2 c3 s 0 0 0 := by
        by_cases q : s = 1
        · rw [q]
          exact M1
        · exact sk_keep K1 q (sk_zero s)
      refine sk_at0 (s := 1) (by omega) M1 (sk_next0 hs Ms (sk_sum0 hs (by omega) (by omega) Ms (sk_sym1 hs (by omega) (by omega) Ms (Or.inl rfl) ?_)))
      exact br_f (nI_pos (by omega)) (br_f (nI_nlt (a := 4) (by omega) (by decide)) (sk_84b hb H))
    · rcases sk_ix p1 (n := 6) (by decide) with ⟨i, hi, e1⟩ | h1
      · rcases sk_ix p2 (n := 6) (by decide) with ⟨j, hj, e2⟩ | h2
        · subst e1
          subst e2
          refine sk_put hs hi hj (sk_zero s) ?_
          intro g b1 b2 b3 b4 b5 b6 b7 M K
          refine sk_scale hs hi hj M ?_
          intro g c1 c2 c3 c4 c5 c6 c7 M1 K1
          have Ms : sk_M c1 c2 c3 s i j (if nI s = 1 then p3 * p4 else p3) := by
            by_cases q : s = 1
            · rw [if_pos ((sk_is1 hs).mpr q), q]
              exact M1
            · rw [if_neg (fun t => q ((sk_is1 hs).mp t))]
              exact sk_keep K1 q M
          refine sk_at1 (s := 1) (by omega) hi hj M1 (sk_next hs hi Ms (sk_sum hs hi hj hj Ms (sk_sym hs hi hj Ms ?_)))
          exact br_f (nI_pos (by omega)) (br_f (nI_nlt (a := 4) (by omega) (by decide)) (sk_84g hi hj rfl H))
        · exact absurd (Or.inr h2) hb
      · exact absurd (Or.inl h1) hb
  · refine sk_putN h0 (sk_scaleN h0 (sk_at0 (s := 1) (by omega) (sk_zero 1) (sk_nextN h0 (sk_sumN h0 (sk_symN h0 ?_)))))
    have G : ∀ mc ms kc ks, wL_lawOf_83 post mc ms p0 p1 p2 p3 p4 0 (-1) 0 (-1) 0 0 kc ks := fun mc ms kc ks => br_t sk_00 (sk_113 (by rw [if_pos sk_00]) (by rw [if_pos sk_00]) H)
    rcases h0 with h | ⟨h, g⟩
    · exact br_t h (G _ _ _ _)
    · exact br_f h (br_t (sk_lt5 g) (G _ _ _ _))
theorem sk_cell {post : Int32 → Prop} {L p : Nat} {xs : Nat → Int32} (hL : L ≤ 5) (hp : p < 5) (H : ∀ r, post r) : wpL_cellAt post L xs () (nI p) := by
  refine br_c (fun _ => H _) (fun g => ⟨vp_in_nI ?_ (by omega), H _⟩)
  exact Decidable.byContradiction (fun t => g (nI_le (by omega) (by omega)))
theorem i_vc (xs : Nat → Int32) (L : Nat) (hL : L ≤ 5) : wpL_law (fun r => r = 1) L xs :=
  sk_cell (p := 0) hL (by omega) (fun r1 => sk_cell (p := 1) hL (by omega) (fun r2 => sk_cell (p := 2) hL (by omega) (fun r3 => sk_cell (p := 3) hL (by omega) (fun r4 => sk_cell (p := 4) hL (by omega) (fun r5 => ⟨8, 488, by decide, by decide, sk_lawOf rfl⟩)))))
end
