section
/-! the pure picture: the way of lesser children below m, from place 0; the array while the gap goes down that way -/
def hq_ch (a : Nat → Int32) (m i : Nat) : Nat := if 2 * i + 1 + 1 < m ∧ ¬ a (2 * i + 1) ≤ a (2 * i + 1 + 1) then 2 * i + 1 + 1 else 2 * i + 1
def hq_w (a : Nat → Int32) (m : Nat) : Nat → Nat
  | 0 => 0
  | j + 1 => hq_ch a m (hq_w a m j)
def hq_s (a : Nat → Int32) (m : Nat) : Nat → (Nat → Int32)
  | 0 => a
  | j + 1 => upd (hq_s a m j) (hq_w a m j) (a (hq_w a m (j + 1)))
theorem hq_ch_r {a : Nat → Int32} {m i : Nat} (h : 2 * i + 1 + 1 < m) (g : ¬ a (2 * i + 1) ≤ a (2 * i + 1 + 1)) : hq_ch a m i = 2 * i + 1 + 1 := if_pos ⟨h, g⟩
theorem hq_ch_l {a : Nat → Int32} {m i : Nat} (h : m ≤ 2 * i + 1 + 1 ∨ a (2 * i + 1) ≤ a (2 * i + 1 + 1)) : hq_ch a m i = 2 * i + 1 := by
  refine if_neg (fun t => ?_)
  rcases h with h | h
  · exact absurd t.1 (by omega)
  · exact t.2 h
theorem hq_ch_b (a : Nat → Int32) (m i : Nat) : (hq_ch a m i = 2 * i + 1 ∨ hq_ch a m i = 2 * i + 2) ∧ (2 * i + 1 < m → hq_ch a m i < m) := by
  unfold hq_ch
  by_cases h : 2 * i + 1 + 1 < m ∧ ¬ a (2 * i + 1) ≤ a (2 * i + 1 + 1)
  · rw [if_pos h]
    exact ⟨Or.inr rfl, fun _ => h.1⟩
  · rw [if_neg h]
    exact ⟨Or.inl rfl, fun z => z⟩
theorem hq_up (a : Nat → Int32) (m j : Nat) : hq_w a m j < hq_w a m (j + 1) := by
  have h := (hq_ch_b a m (hq_w a m j)).1
  show hq_w a m j < hq_ch a m (hq_w a m j)
  omega
theorem hq_ge (a : Nat → Int32) (m j : Nat) : j ≤ hq_w a m j := by
  induction j with
  | zero => exact Nat.zero_le _
  | succ j ih =>
    have h := hq_up a m j
    omega
/-- above the gap the array is the old one -/
theorem hq_sk (a : Nat → Int32) (m j : Nat) : ∀ k, hq_w a m j ≤ k → hq_s a m j k = a k := by
  induction j with
  | zero => exact fun k _ => rfl
  | succ j ih =>
    intro k hk
    have h := hq_up a m j
    show upd (hq_s a m j) (hq_w a m j) (a (hq_w a m (j + 1))) k = a k
    rw [pk_un (by omega)]
    exact ih k (by omega)
/-- T: the way's length; D: how far the gap goes -/
def hq_P (a : Nat → Int32) (m : Nat) (x : Int32) (T D : Nat) : Prop := m ≤ 7 ∧ m ≤ 2 * hq_w a m T + 1 ∧ (∀ j, j < T → 2 * hq_w a m j + 1 < m) ∧ D ≤ T ∧ (∀ j, j < D → a (hq_w a m (j + 1)) < x) ∧ (∀ j, D ≤ j → j < T → ¬ a (hq_w a m (j + 1)) < x)
theorem hq_wb {a : Nat → Int32} {m T D : Nat} {x : Int32} (P : hq_P a m x T D) : ∀ j, j ≤ T → hq_w a m j < 8 := by
  intro j hj
  obtain ⟨hm, _, h, _⟩ := P
  cases j with
  | zero => exact (by decide : 0 < 8)
  | succ j =>
    have h1 := (hq_ch_b a m (hq_w a m j)).2 (h j (by omega))
    show hq_ch a m (hq_w a m j) < 8
    omega
theorem hq_Tb {a : Nat → Int32} {m T D : Nat} {x : Int32} (P : hq_P a m x T D) : T < 8 := by
  have h := hq_wb P T (Nat.le_refl T)
  have g := hq_ge a m T
  omega
theorem hq_fd (p : Nat → Prop) (m : Nat) : ∃ d, d ≤ m ∧ (∀ j, j < d → p j) ∧ (d < m → ¬ p d) := by
  induction m with
  | zero => exact ⟨0, Nat.le_refl 0, fun j h => absurd h (by omega), fun h => absurd h (by omega)⟩
  | succ m ih =>
    obtain ⟨d, h1, h2, h3⟩ := ih
    by_cases hd : d < m
    · exact ⟨d, by omega, h2, fun _ => h3 hd⟩
    · by_cases he : p d
      · refine ⟨d + 1, by omega, fun j hj => ?_, fun h => absurd h (by omega)⟩
        by_cases e : j = d
        · rw [e]
          exact he
        · exact h2 j (by omega)
      · exact ⟨d, by omega, h2, fun _ => he⟩
/-- in a heap both ways of stopping are one -/
theorem hq_all (a : Nat → Int32) (m : Nat) (x : Int32) (hm : m ≤ 7) (H : ∀ j, j < m → 0 < j → a ((j - 1) / 2) ≤ a j) : ∃ T D, hq_P a m x T D := by
  obtain ⟨T, hT, hl⟩ := pk_least (fun j => m ≤ 2 * hq_w a m j + 1) ⟨m, by have h := hq_ge a m m; show m ≤ 2 * hq_w a m m + 1; omega⟩
  have hl' : ∀ j, j < T → 2 * hq_w a m j + 1 < m := fun j hj => by
    have h : ¬ m ≤ 2 * hq_w a m j + 1 := hl j hj
    omega
  obtain ⟨D, h1, h2, h3⟩ := hq_fd (fun j => a (hq_w a m (j + 1)) < x) T
  have up : ∀ j, j < T → a (hq_w a m j) ≤ a (hq_w a m (j + 1)) := by
    intro j hj
    have b := hq_ch_b a m (hq_w a m j)
    have c := H (hq_w a m (j + 1)) (b.2 (hl' j hj)) (by have g := hq_up a m j; omega)
    have e : (hq_w a m (j + 1) - 1) / 2 = hq_w a m j := by
      have b1 : hq_w a m (j + 1) = 2 * hq_w a m j + 1 ∨ hq_w a m (j + 1) = 2 * hq_w a m j + 2 := b.1
      omega
    rw [e] at c
    exact c
  refine ⟨T, D, hm, hT, hl', h1, h2, ?_⟩
  intro j
  induction j with
  | zero =>
    intro hD hT'
    have e : D = 0 := by omega
    rw [e] at h3
    exact h3 hT'
  | succ j ih =>
    intro hD hT'
    by_cases e : D = j + 1
    · rw [e] at h3
      exact h3 hT'
    · have q := ih (by omega) (by omega)
      have u := up (j + 1) hT'
      rw [Int32.lt_iff_toInt_lt] at q ⊢
      rw [Int32.le_iff_toInt_le] at u
      omega
end
section
theorem hq_2 (c : Nat) : 2 * nI c + 1 = nI (2 * c + 1) := by
  rw [← nI_1, ← pk_mul]
  rfl
theorem hq_88t {post : Int32 → St2 → Prop} {J : Int32 → Int32 → (Nat → Int32) → Prop} {x1 x f : Int32} {i c : Nat} {s : Nat → Int32} (hc : c < 8) (hi : i < 8) (hl : s c < x) (G : J (nI c) (nI (2 * c + 1)) (upd s i (s c))) : wX5_takeLeast_88 post J x1 x (nI i) (nI c) f s := by
  unfold wX5_takeLeast_88
  rw [nI_clamp (show c < 2 ^ 31 by omega), nI_clamp (show i < 2 ^ 31 by omega)]
  exact ⟨pk_in c 8 hc, br_t hl ⟨pk_in c 8 hc, pk_in i 8 hi, nm_e (nm_r (hq_2 c) G)⟩⟩
theorem hq_88f {post : Int32 → St2 → Prop} {J : Int32 → Int32 → (Nat → Int32) → Prop} {x1 x f : Int32} {i c : Nat} {s : Nat → Int32} (hc : c < 8) (hi : i < 8) (hl : ¬ s c < x) (G : post x1 (f, upd s i x)) : wX5_takeLeast_88 post J x1 x (nI i) (nI c) f s := by
  unfold wX5_takeLeast_88
  rw [nI_clamp (show c < 2 ^ 31 by omega), nI_clamp (show i < 2 ^ 31 by omega)]
  exact ⟨pk_in c 8 hc, br_f hl ⟨pk_in i 8 hi, nm_e G⟩⟩
/-- one turn of the component's loop: the lesser child is found -/
theorem hq_46b {post : Int32 → St2 → Prop} {x1 x : Int32} {m i n : Nat} {a s : Nat → Int32} (hm : m ≤ 7) (hi : 2 * i + 1 < m) (hs : ∀ k, i ≤ k → s k = a k)
    (G : wX5_takeLeast_88 post (wX5_takeLeast_46 post x1 x (nI m) n) x1 x (nI i) (nI (hq_ch a m i)) (nI m) s) : wX5_takeLeast_46 post x1 x (nI m) (n + 1) (nI i) (nI (2 * i + 1)) s := by
  have e1 : (nI (2 * i + 1)).toNatClampNeg = 2 * i + 1 := nI_clamp (by omega)
  have e2 : (nI (2 * i + 1) + 1).toNatClampNeg = 2 * i + 1 + 1 := by
    rw [nI_1]
    exact nI_clamp (by omega)
  refine pk_le m (2 * i + 1) (fun z => absurd z (by omega)) (fun _ => ?_)
  refine pk_le m (2 * i + 1 + 1) (fun z => ?_) (fun z => ⟨pk_in (2 * i + 1 + 1) 8 (by omega) (nI_1 _), pk_in (2 * i + 1) 8 (by omega), ?_⟩) rfl (nI_1 _)
  · rw [hq_ch_l (Or.inl z)] at G
    exact G
  · rw [e1, e2, hs (2 * i + 1) (by omega), hs (2 * i + 1 + 1) (by omega)]
    refine br_c (fun g => ?_) (fun g => nm_r (nI_1 _) ?_)
    · rw [hq_ch_l (Or.inr g)] at G
      exact G
    · rw [hq_ch_r z g] at G
      exact G
theorem hq_46 {post : Int32 → St2 → Prop} {x1 x : Int32} {m T D : Nat} {a : Nat → Int32} (P : hq_P a m x T D) (H : post x1 (nI m, upd (hq_s a m D) (hq_w a m D) x)) : ∃ n, wX5_takeLeast_46 post x1 x (nI m) n 0 1 a := by
  have hw := hq_wb P
  obtain ⟨hm, hT, hl, hD, h1, h2⟩ := P
  refine pk_loop (fun n j s => wX5_takeLeast_46 post x1 x (nI m) n (nI (hq_w a m j)) (nI (2 * hq_w a m j + 1)) s) (fun j s => s = hq_s a m j) D 0 a (by omega) rfl ?_ ?_
  · intro n s hs
    have hs' : s = hq_s a m D := hs
    have wD := hw D hD
    show wX5_takeLeast_46 post x1 x (nI m) (n + 1) (nI (hq_w a m D)) (nI (2 * hq_w a m D + 1)) s
    rw [hs']
    by_cases e : D = T
    · rw [← e] at hT
      refine pk_le m (2 * hq_w a m D + 1) (fun _ => ⟨pk_in (hq_w a m D) 8 wD, nm_r ?_ H⟩) (fun z => absurd z (by omega))
      rw [nI_clamp (by omega)]
    · have lT : D < T := by omega
      refine hq_46b hm (hl D lT) (hq_sk a m D) (hq_88f (hw (D + 1) (by omega)) wD ?_ H)
      have g : hq_s a m D (hq_w a m (D + 1)) = a (hq_w a m (D + 1)) := hq_sk a m D _ (Nat.le_of_lt (hq_up a m D))
      show ¬ hq_s a m D (hq_w a m (D + 1)) < x
      rw [g]
      exact h2 D (Nat.le_refl D) lT
  · intro n j s hj hs hn
    have hs' : s = hq_s a m j := hs
    have lT : j < T := by omega
    have g : hq_s a m j (hq_w a m (j + 1)) = a (hq_w a m (j + 1)) := hq_sk a m j _ (Nat.le_of_lt (hq_up a m j))
    have t := hn (hq_s a m (j + 1)) rfl
    show wX5_takeLeast_46 post x1 x (nI m) (n + 1) (nI (hq_w a m j)) (nI (2 * hq_w a m j + 1)) s
    rw [hs']
    refine hq_46b hm (hl j lT) (hq_sk a m j) (hq_88t (hw (j + 1) (by omega)) (hw j (by omega)) ?_ ?_)
    · show hq_s a m j (hq_w a m (j + 1)) < x
      rw [g]
      exact h1 j hj
    · show wX5_takeLeast_46 post x1 x (nI m) n (nI (hq_w a m (j + 1))) (nI (2 * hq_w a m (j + 1) + 1)) (upd (hq_s a m j) (hq_w a m j) (hq_s a m j (hq_w a m (j + 1))))
      rw [g]
      exact t
/-- the component's method -/
theorem hq_X5 {post : Int32 → St2 → Prop} {m T D : Nat} {a : Nat → Int32} (P : hq_P a m (a m) T D) (H : post (a 0) (nI m, upd (hq_s a m D) (hq_w a m D) (a m))) : wpX5_takeLeast post (nI (m + 1), a) := by
  have hm := P.1
  refine br_f (nI_ne0 (by omega) (by omega)) (nm_e (nm_r (nI_pred m) ⟨pk_in m 8 (by omega) (nI_pred m), nm_r ?_ (hq_46 P H)⟩))
  rw [nI_pred, nI_clamp (by omega)]
end
section
theorem hq_162 {post : Int32 → St2 → Prop} {mc ms kc ks : Nat} {x1 x f : Int32} {m T D : Nat} {a am : Nat → Int32} (P : hq_P a m x T D) (hA : ∀ k, k ≤ T → am k = nI (hq_w a m k)) (H : post x1 (f, upd (hq_s a m D) (hq_w a m D) x)) : ∃ n, wX6_takeLeast_162 post mc ms x1 x (nI D) kc ks f n 1 a am := by
  have hw := hq_wb P
  have hTb := hq_Tb P
  obtain ⟨hm, hT, hl, hD, h1, h2⟩ := P
  have cl : ∀ k, k ≤ T → am (nI k).toNatClampNeg = nI (hq_w a m k) := fun k hk => by
    rw [nI_clamp (by omega)]
    exact hA k hk
  refine pk_loop (fun n j s => wX6_takeLeast_162 post mc ms x1 x (nI D) kc ks f n (nI (j + 1)) s am) (fun j s => s = hq_s a m j) D 0 a (by omega) rfl ?_ ?_
  · intro n s hs
    have hs' : s = hq_s a m D := hs
    have wD := hw D hD
    show wX6_takeLeast_162 post mc ms x1 x (nI D) kc ks f (n + 1) (nI (D + 1)) s am
    rw [hs']
    refine pk_lt D (D + 1) (fun _ => ⟨pk_in D 40 (by omega), pk_in (hq_w a m D) 8 wD (cl D hD), nm_r ?_ H⟩) (fun z => absurd z (by omega))
    rw [cl D hD, nI_clamp (by omega)]
  · intro n j s hj hs hn
    have hs' : s = hq_s a m j := hs
    have w0 := hw j (by omega)
    have w1 := hw (j + 1) (by omega)
    have g : hq_s a m j (hq_w a m (j + 1)) = a (hq_w a m (j + 1)) := hq_sk a m j _ (Nat.le_of_lt (hq_up a m j))
    have t := hn (hq_s a m (j + 1)) rfl
    show wX6_takeLeast_162 post mc ms x1 x (nI D) kc ks f (n + 1) (nI (j + 1)) s am
    rw [hs']
    have c0 : am (nI (j + 1) - 1).toNatClampNeg = nI (hq_w a m j) := by
      rw [nI_pred]
      exact cl j (by omega)
    refine pk_lt D (j + 1) (fun z => absurd z (by omega)) (fun _ => ⟨pk_in j 40 (by omega) (nI_pred j), pk_in (j + 1) 40 (by omega), pk_in (hq_w a m (j + 1)) 8 w1 (cl (j + 1) (by omega)), pk_in (hq_w a m j) 8 w0 c0, nm_r ?_ (nm_r (nI_1 (j + 1)) t)⟩)
    rw [c0, cl (j + 1) (by omega), nI_clamp (by omega), nI_clamp (by omega), g]
    rfl
theorem hq_129 {post : Int32 → St2 → Prop} {mc ms kc ks : Nat} {x1 x f : Int32} {m T D : Nat} {a am : Nat → Int32} (P : hq_P a m x T D) (hA : ∀ k, k ≤ T → am k = nI (hq_w a m k)) (H : post x1 (f, upd (hq_s a m D) (hq_w a m D) x)) : ∃ n, wX6_takeLeast_129 post mc ms x1 x (nI T) kc ks f a am n 0 1 := by
  have P' := P
  have hw := hq_wb P
  have hTb := hq_Tb P
  obtain ⟨hm, hT, hl, hD, h1, h2⟩ := P
  have cl : ∀ k, k ≤ T → am (nI k).toNatClampNeg = nI (hq_w a m k) := fun k hk => by
    rw [nI_clamp (by omega)]
    exact hA k hk
  refine Exists.elim (pk_loop (σ := Unit) (fun n j _ => wX6_takeLeast_129 post mc ms x1 x (nI T) kc ks f a am n (nI (min j D)) (nI (j + 1))) (fun _ _ => True) T 0 () (by omega) trivial ?_ ?_) (fun n hn => ?_)
  rotate_left 2
  · have hn' : wX6_takeLeast_129 post mc ms x1 x (nI T) kc ks f a am n (nI (min 0 D)) (nI (0 + 1)) := hn
    rw [Nat.zero_min] at hn'
    exact ⟨n, hn'⟩
  · intro n _ _
    show wX6_takeLeast_129 post mc ms x1 x (nI T) kc ks f a am (n + 1) (nI (min T D)) (nI (T + 1))
    rw [show min T D = D by omega]
    exact pk_lt T (T + 1) (fun _ => hq_162 P' hA H) (fun z => absurd z (by omega))
  · intro n j _ hj _ hn
    have w1 := hw (j + 1) (by omega)
    have t : wX6_takeLeast_129 post mc ms x1 x (nI T) kc ks f a am n (nI (min (j + 1) D)) (nI (j + 1 + 1)) := hn () trivial
    show wX6_takeLeast_129 post mc ms x1 x (nI T) kc ks f a am (n + 1) (nI (min j D)) (nI (j + 1))
    refine pk_lt T (j + 1) (fun z => absurd z (by omega)) (fun _ => ⟨pk_in (j + 1) 40 (by omega), pk_in (hq_w a m (j + 1)) 8 w1 (cl (j + 1) (by omega)), ?_⟩)
    rw [cl (j + 1) (by omega), nI_clamp (show hq_w a m (j + 1) < 2 ^ 31 by omega)]
    by_cases e : j < D
    · have q := h1 j e
      rw [show min (j + 1) D = min j D + 1 by omega] at t
      refine br_f ?_ (nm_r (nI_1 _) (nm_r (nI_1 _) t))
      rw [Int32.lt_iff_toInt_lt] at q
      rw [Int32.le_iff_toInt_le]
      omega
    · have q := h2 j (by omega) hj
      rw [show min (j + 1) D = min j D by omega] at t
      refine br_t ?_ (nm_r (nI_1 _) t)
      rw [Int32.lt_iff_toInt_lt] at q
      rw [Int32.le_iff_toInt_le]
      omega
theorem hq_put {f : Nat → Nat} {s : Nat → Int32} {j v : Nat} (h : ∀ k, k ≤ j → s k = nI (f k)) (hv : v = f (j + 1)) : ∀ k, k ≤ j + 1 → upd s (j + 1) (nI v) k = nI (f k) := by
  intro k hk
  by_cases e : k = j + 1
  · rw [e, pk_us, hv]
  · rw [pk_un e]
    exact h k (by omega)
theorem hq_38 {post : Int32 → St2 → Prop} {mc ms kc ks : Nat} {x1 x f : Int32} {m T D : Nat} {a : Nat → Int32} (P : hq_P a m x T D) (H : post x1 (f, upd (hq_s a m D) (hq_w a m D) x)) : ∃ n, wX6_takeLeast_38 post mc ms x1 (nI m) x kc ks f n 0 a (fun _ => 0) := by
  have P' := P
  have hw := hq_wb P
  have hTb := hq_Tb P
  obtain ⟨hm, hT, hl, hD, h1, h2⟩ := P
  refine pk_loop (fun n j s => wX6_takeLeast_38 post mc ms x1 (nI m) x kc ks f n (nI j) a s) (fun j s => ∀ k, k ≤ j → s k = nI (hq_w a m k)) T 0 (fun _ => 0) (by omega) ?_ ?_ ?_
  · intro k hk
    have e : k = 0 := by omega
    rw [e]
    rfl
  · intro n s hs
    have wT := hw T (Nat.le_refl T)
    have e : 2 * s (nI T).toNatClampNeg + 1 = nI (2 * hq_w a m T + 1) := by
      rw [nI_clamp (by omega), hs T (Nat.le_refl T), hq_2]
    exact ⟨pk_in T 40 (by omega), pk_le m (2 * hq_w a m T + 1) (fun _ => hq_129 P' hs H) (fun z => absurd z (by omega)) rfl e⟩
  · intro n j s hj hs hn
    have w0 := hw j (by omega)
    have l0 := hl j hj
    have hs' : ∀ k, k ≤ j → s k = nI (hq_w a m k) := hs
    have e : 2 * s (nI j).toNatClampNeg + 1 = nI (2 * hq_w a m j + 1) := by
      rw [nI_clamp (by omega), hs' j (Nat.le_refl j), hq_2]
    have cl : (nI j + 1).toNatClampNeg = j + 1 := by
      rw [nI_1]
      exact nI_clamp (by omega)
    have e1 : (nI (2 * hq_w a m j + 1)).toNatClampNeg = 2 * hq_w a m j + 1 := nI_clamp (by omega)
    have e2 : (nI (2 * hq_w a m j + 1) + 1).toNatClampNeg = 2 * hq_w a m j + 1 + 1 := by
      rw [nI_1]
      exact nI_clamp (by omega)
    have t : ∀ v, v = hq_w a m (j + 1) → wX6_takeLeast_38 post mc ms x1 (nI m) x kc ks f n (nI (j + 1)) a (upd s (j + 1) (nI v)) := fun v hv => hn _ (hq_put hs' hv)
    have L : hq_ch a m (hq_w a m j) = 2 * hq_w a m j + 1 → wX6_takeLeast_94 post mc ms (wX6_takeLeast_38 post mc ms x1 (nI m) x kc ks f n) x1 (nI m) x (nI j) (nI (2 * hq_w a m j + 1)) 0 kc ks f a s := by
      intro h
      refine br_t rfl ⟨pk_in (j + 1) 40 (by omega) (nI_1 j), nm_r ?_ (nm_r (nI_1 j) (t _ h.symm))⟩
      rw [cl]
    have R : hq_ch a m (hq_w a m j) = 2 * hq_w a m j + 1 + 1 → wX6_takeLeast_94 post mc ms (wX6_takeLeast_38 post mc ms x1 (nI m) x kc ks f n) x1 (nI m) x (nI j) (nI (2 * hq_w a m j + 1)) 1 kc ks f a s := by
      intro h
      refine br_f (by decide) ⟨pk_in (j + 1) 40 (by omega) (nI_1 j), nm_r ?_ (nm_r (nI_1 j) (t _ h.symm))⟩
      rw [cl, nI_1]
    refine ⟨pk_in j 40 (by omega), pk_le m (2 * hq_w a m j + 1) (fun z => absurd z (by omega)) (fun _ => ⟨pk_in j 40 (by omega), nm_r e ?_⟩) rfl e⟩
    refine pk_le m (2 * hq_w a m j + 1 + 1) (fun z => L (hq_ch_l (Or.inl z))) (fun z => ⟨pk_in (2 * hq_w a m j + 1 + 1) 8 (by omega) (nI_1 _), pk_in (2 * hq_w a m j + 1) 8 (by omega), ?_⟩) rfl (nI_1 _)
    rw [e1, e2]
    exact br_c (fun g => L (hq_ch_l (Or.inr g))) (fun g => R (hq_ch_r z g))
/-- the twin's method -/
theorem hq_X6 {post : Int32 → St2 → Prop} {m T D : Nat} {a : Nat → Int32} (P : hq_P a m (a m) T D) (H : post (a 0) (nI m, upd (hq_s a m D) (hq_w a m D) (a m))) : wpX6_takeLeast post 1 40 (nI (m + 1), a) := by
  have hm := P.1
  refine nm_e (nm_r (nI_pred m) ⟨pk_in m 8 (by omega), nm_r ?_ ⟨Nat.le_refl 1, Nat.le_refl 40, hq_38 P H⟩⟩)
  rw [nI_clamp (by omega)]
end
section
theorem hq_add {z : Int32} {t : Nat} (h1 : -1073741824 ≤ z.toInt) (h2 : z.toInt ≤ 1073742000) (ht : t < 8) : (z + nI t).toInt = z.toInt + (t : Int) := by
  rw [Int32.toInt_add, nI_toInt (by omega)]
  exact Int.bmod_eq_of_le (by omega) (by omega)
theorem hq_base (c : Int32) : -1073741824 ≤ (c >>> ((1 : Int32) &&& 31)).toInt ∧ (c >>> ((1 : Int32) &&& 31)).toInt ≤ 1073741824 := by
  rw [pk_shr c _ 1 (by decide), Int.shiftRight_eq_div_pow]
  have h1 := Int32.toInt_lt c
  have h2 := Int32.le_toInt c
  omega
/-- the law's array, i places filled: no sum leaves the ints, and it is a heap -/
def hq_I (i : Nat) (s : Nat → Int32) : Prop := ∀ j, j < i → -1073741824 ≤ (s j).toInt ∧ (s j).toInt ≤ 1073741824 + 7 * ((j : Int) + 1) ∧ (0 < j → s ((j - 1) / 2) ≤ s j)
theorem hq_grow {i t : Nat} {s : Nat → Int32} {z : Int32} (h : hq_I i s) (hi : i < 8) (ht : t < 8) (b1 : -1073741824 ≤ z.toInt) (b2 : z.toInt ≤ 1073741824 + 7 * (i : Int)) (hz : 0 < i → z = s ((i - 1) / 2)) : hq_I (i + 1) (upd s i (z + nI t)) := by
  intro j hj
  have e := hq_add b1 (by omega) ht
  by_cases c : j = i
  · rw [c, pk_us, e]
    refine ⟨by omega, by omega, fun p => ?_⟩
    rw [pk_un (show (i - 1) / 2 ≠ i by omega), ← hz p, Int32.le_iff_toInt_le, e]
    omega
  · obtain ⟨h1, h2, h3⟩ := h j (by omega)
    rw [pk_un c]
    refine ⟨h1, h2, fun p => ?_⟩
    rw [pk_un (show (j - 1) / 2 ≠ i by omega)]
    exact h3 p
theorem hq_52 {post : Int32 → St0 → Prop} {mc ms kc ks : Nat} {J : Int32 → (Nat → Int32) → (Nat → Int32) → Prop} {x0 x3 x6 z0 : Int32} {i : Nat} {s : Nat → Int32} (hi : i < 8) (H : ∀ t, t < 8 → J (nI (i + 1)) (upd s i (z0 + nI t)) (upd s i (z0 + nI t))) : wL_lawOf_52 post mc ms J x0 x3 x6 (nI i) z0 kc ks s s := by
  obtain ⟨t, ht, e⟩ := pk_andE ((x0.toUInt32 >>> ((4 * nI i).toUInt32 &&& Int32.toUInt32 31)).toInt32) (m := 7) 3 (by decide)
  have c : (nI i).toNatClampNeg = i := nI_clamp (by omega)
  exact nm_r (e' := z0 + nI t) (by rw [e]) ⟨pk_in i 8 hi, nm_r (e' := upd s i (z0 + nI t)) (by rw [c]) ⟨pk_in i 8 hi, nm_r (e' := upd s i (z0 + nI t)) (by rw [c]) (nm_r (nI_1 i) (H t ht))⟩⟩
theorem hq_156 {post : Int32 → St0 → Prop} {mc ms kc ks : Nat} {f f' : Int32} {a : Nat → Int32} (H : post 1 ()) : ∃ n, wL_lawOf_156 post mc ms kc ks f a f' a n 0 :=
  pk_loop (σ := Unit) (fun n i _ => wL_lawOf_156 post mc ms kc ks f a f' a n (nI i)) (fun _ _ => True) 8 0 () (by omega) trivial
    (fun n _ _ => pk_le 8 8 (fun _ => H) (fun z => absurd z (by omega)))
    (fun n i _ hi _ hw => pk_le 8 i (fun z => absurd z (by omega)) (fun _ => ⟨pk_in i 8 hi, pk_in i 8 hi, br_t rfl (nm_r (nI_1 i) (hw () trivial))⟩))
theorem hq_27 {post : Int32 → St0 → Prop} {x0 b : Int32} {m : Nat} (hm : m ≤ 7) (b1 : -1073741824 ≤ b.toInt) (b2 : b.toInt ≤ 1073741824) (H : post 1 ()) : ∃ n, wL_lawOf_27 post 20 320 x0 (nI (m + 1)) b 2 16 n 0 (fun _ => 0) (fun _ => 0) := by
  refine pk_loop (fun n i s => wL_lawOf_27 post 20 320 x0 (nI (m + 1)) b 2 16 n (nI i) s s) hq_I (m + 1) 0 (fun _ => 0) (by omega) (fun j hj => absurd hj (by omega)) ?_ ?_
  · intro n s hs
    obtain ⟨T, D, P⟩ := hq_all s m (s m) hm (fun j hj hp => (hs j (by omega)).2.2 hp)
    refine pk_le (m + 1) (m + 1) (fun _ => ⟨by decide, by decide, ?_⟩) (fun z => absurd z (by omega))
    refine ⟨by decide, by decide, ?_⟩
    refine hq_X5 P ?_
    refine ⟨1, 40, by decide, by decide, hq_X6 P ?_⟩
    exact br_t rfl (br_t rfl (hq_156 H))
  · intro n i s hi hs hn
    refine pk_le (m + 1) i (fun z => absurd z (by omega)) (fun _ => pk_eq i 0 (fun z => ?_) (fun z => ?_))
    · exact hq_52 (by omega) (fun t ht => hn _ (hq_grow hs (by omega) ht b1 (by omega) (fun p => absurd p (by omega))))
    · have q : (nI i - 1) / 2 = nI ((i - 1) / 2) := by
        obtain ⟨k, rfl⟩ : ∃ k, i = k + 1 := ⟨i - 1, by omega⟩
        rw [nI_pred]
        exact pk_div (by omega) (by decide) (by decide)
      have c : ((nI i - 1) / 2).toNatClampNeg = (i - 1) / 2 := by
        rw [q]
        exact nI_clamp (by omega)
      obtain ⟨h1, h2, _⟩ := hs ((i - 1) / 2) (by omega)
      refine ⟨by decide, pk_in ((i - 1) / 2) 8 (by omega) q, ?_⟩
      rw [c]
      exact hq_52 (by omega) (fun t ht => hn _ (hq_grow hs (by omega) ht h1 (by omega) (fun _ => rfl)))
theorem hq_cell {post : Int32 → Prop} {L : Nat} {xs : Nat → Int32} (k : Nat) (hL : L ≤ 3) (hk : k ≤ 3) (H : ∀ v, post v) : wpL_cellAt post L xs () (nI k) :=
  pk_le L k (fun _ => H 0) (fun z => ⟨pk_in k L z, H _⟩)
theorem hq_lawOf {post : Int32 → St0 → Prop} (p0 p1 p2 : Int32) (H : post 1 ()) : wpL_lawOf post 20 320 () p0 p1 p2 := by
  obtain ⟨m, hm, e⟩ := pk_andE p2 (m := 7) 3 (by decide)
  have hb := hq_base p1
  exact nm_r (e' := nI (m + 1)) (by rw [e, Int32.add_comm, nI_1]) ⟨by decide, by decide, by decide, by decide, nm_e (hq_27 (by omega) hb.1 hb.2 H)⟩
end
section
theorem i_vc (xs : Nat → Int32) (L : Nat) (hL : L ≤ 3) : wpL_law (fun r => r = 1) L xs :=
  hq_cell 0 hL (by decide) (fun v1 => hq_cell 1 hL (by decide) (fun v2 => hq_cell 2 hL (by decide) (fun v3 => ⟨20, 320, by decide, by decide, hq_lawOf v1 v2 v3 rfl⟩)))
end
