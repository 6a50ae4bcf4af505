section
/-- every place below n holds -1 -/
def zm_M (n : Nat) (f : Nat → Int32) : Prop := ∀ j, j < n → f j = -1
theorem zm_M0 {f : Nat → Int32} : zm_M 0 f := fun j hj => absurd hj (by omega)
theorem zm_Mfill {s : Nat → Int32} {i k : Nat} (hk : k = i) (h : zm_M i s) : zm_M (i + 1) (upd s k (-1)) := by
  intro j hj
  rw [hk]
  by_cases e : j = i
  · rw [e, pk_us]
  · rw [pk_un e]
    exact h j (by omega)
theorem zm_ne : ∀ t, t < 64 → ¬ (-1 : Int32) = nI t := by decide +kernel
theorem zm_by : ∀ t, t < 64 → (nI t).toInt8.toInt32 = nI t := by decide +kernel
theorem zm_nb {t : Nat} (h : t < 64) : vp_nar .byte (nI t) = nI t := by
  rw [vp_nar_byte, zm_by t h]
theorem zm_nz : vp_nar .boolean 1 = 1 := by rfl
theorem zm_neg : ¬ (0 : Int32) ≤ -1 := by decide
theorem zm_neg' : (-1 : Int32) < 0 := by decide
theorem zm_e8 (a b : Nat) : (8 : Int32) * nI a + nI b = nI (8 * a + b) := by
  rw [show (8 : Int32) = nI 8 from rfl, pk_mul, nI_add]
theorem zm_e4 (a b : Nat) : (4 : Int32) * nI a + nI b = nI (4 * a + b) := by
  rw [show (4 : Int32) = nI 4 from rfl, pk_mul, nI_add]
theorem zm_4 (a : Nat) : (4 : Int32) + nI a = nI (4 + a) := by
  rw [show (4 : Int32) = nI 4 from rfl, nI_add]
theorem zm_and7 {a : Nat} (h : a < 64) : nI a &&& 7 = nI (a % 8) := pk_andN (by omega) 3 (by decide)
theorem zm_and3 {a : Nat} (h : a < 64) : nI a &&& 3 = nI (a % 4) := pk_andN (by omega) 2 (by decide)
theorem zm_shr3 {a : Nat} (h : a < 64) : nI a >>> ((3 : Int32) &&& 31) = nI (a / 8) := pk_shrN (by omega) _ 3 (by decide)
theorem zm_shr2 {a : Nat} (h : a < 64) : nI a >>> ((2 : Int32) &&& 31) = nI (a / 4) := pk_shrN (by omega) _ 2 (by decide)
/-- an int is below 0, or above n, or one of 0 .. n -/
theorem zm_cut {x M : Int32} {n : Nat} (hM : M.toInt = n) : x < 0 ∨ M < x ∨ ∃ j : Nat, j ≤ n ∧ x = nI j := by
  by_cases h : x < 0
  · exact Or.inl h
  · by_cases h2 : M < x
    · exact Or.inr (Or.inl h2)
    · exact Or.inr (Or.inr (nI_of2 hM h (Int32.not_lt.mp h2)))
/-- the clamp of the constructor -/
theorem zm_clamp {A : Int32 → Prop} {x : Int32} (h : ∀ q : Nat, 1 ≤ q → q ≤ 4 → A (nI q)) : (1 ≤ x → ((x ≤ 4 → A x) ∧ (¬ x ≤ 4 → A 4))) ∧ (¬ 1 ≤ x → A 1) := by
  refine br_c (fun h1 => br_c (fun h4 => ?_) (fun _ => h 4 (by omega) (by omega))) (fun _ => h 1 (by omega) (by omega))
  have h0 : ¬ x < 0 := by
    intro z
    rw [Int32.lt_iff_toInt_lt] at z
    rw [Int32.le_iff_toInt_le] at h1
    have e1 : (1 : Int32).toInt = 1 := by decide
    have e0 : (0 : Int32).toInt = 0 := by decide
    omega
  obtain ⟨j, hj, rfl⟩ := nI_of2 (n := 4) (by decide) h0 h4
  exact h j ((nI_leI (by omega) (by omega)).mp h1) hj
/-- how many entries below n are the frame's and may be written -/
def zm_c (f g : Nat → Int32) (x : Int32) : Nat → Nat
  | 0 => 0
  | n + 1 => zm_c f g x n + if f n = x ∧ ¬ g n = 0 then 1 else 0
theorem zm_cN {f g : Nat → Int32} {x : Int32} {n : Nat} (h : ¬ (f n = x ∧ ¬ g n = 0)) : zm_c f g x (n + 1) = zm_c f g x n := by
  show zm_c f g x n + (if f n = x ∧ ¬ g n = 0 then 1 else 0) = _
  rw [if_neg h]
  rfl
theorem zm_cY {f g : Nat → Int32} {x : Int32} {n : Nat} (h : f n = x ∧ ¬ g n = 0) : zm_c f g x (n + 1) = zm_c f g x n + 1 := by
  show zm_c f g x n + (if f n = x ∧ ¬ g n = 0 then 1 else 0) = _
  rw [if_pos h]
theorem zm_c0 {f g : Nat → Int32} {x : Int32} : ∀ n : Nat, (∀ j, j < n → ¬ (f j = x ∧ ¬ g j = 0)) → zm_c f g x n = 0
  | 0, _ => rfl
  | n + 1, h => by
    rw [zm_cN (h n (by omega))]
    exact zm_c0 n (fun j hj => h j (by omega))
theorem zm_c1 {f g : Nat → Int32} {x : Int32} {e : Nat} (he : f e = x ∧ ¬ g e = 0) : ∀ n : Nat, e < n → (∀ j, j < n → j ≠ e → ¬ (f j = x ∧ ¬ g j = 0)) → zm_c f g x n = 1
  | 0, z, _ => absurd z (by omega)
  | n + 1, _, h => by
    by_cases c : n = e
    · rw [zm_cY (by rw [c]; exact he), zm_c0 n (fun j hj => h j (by omega) (by omega))]
    · rw [zm_cN (h n (by omega) c)]
      exact zm_c1 he n (by omega) (fun j hj => h j (by omega))
end
section
section
variable {g1 g2 g3 g4 g5 : Int32} {a1 a2 a3 a4 a5 a6 a7 a8 a9 a10 : Nat → Int32}
theorem zm_169 {post : St2 → Prop} {mc ms kc ks : Nat} (H : ∀ b, zm_M 8 b → post (g1, g2, g3, g4, g5, a1, a2, a3, a4, a5, a6, b, a8, a9, a10)) : ∃ n, wX_init_169 post mc ms kc ks g1 g2 g3 g4 g5 n 0 a1 a2 a3 a4 a5 a6 a7 a8 a9 a10 :=
  pk_loop (fun n i s => wX_init_169 post mc ms kc ks g1 g2 g3 g4 g5 n (nI i) a1 a2 a3 a4 a5 a6 s a8 a9 a10) (fun i s => zm_M i s) 8 0 a7 (by omega) zm_M0
    (fun n s h => pk_le 8 8 (fun _ => H s h) (fun z => absurd z (by omega)))
    (fun n i s hi h hw => pk_le 8 i (fun z => absurd z (by omega)) (fun _ => ⟨pk_in i 8 hi, nm_e (nm_r (nI_1 i) (hw _ (zm_Mfill (nI_clamp (by omega)) h)))⟩))
theorem zm_149 {post : St2 → Prop} {mc ms kc ks : Nat} (H : ∀ b4 b7, zm_M 4 b4 → zm_M 8 b7 → post (g1, g2, g3, g4, g5, a1, a2, a3, b4, a5, a6, b7, a8, a9, a10)) : ∃ n, wX_init_149 post mc ms kc ks g1 g2 g3 g4 g5 n 0 a1 a2 a3 a4 a5 a6 a7 a8 a9 a10 :=
  pk_loop (fun n i s => wX_init_149 post mc ms kc ks g1 g2 g3 g4 g5 n (nI i) a1 a2 a3 s a5 a6 a7 a8 a9 a10) (fun i s => zm_M i s) 4 0 a4 (by omega) zm_M0
    (fun n s h => pk_le 4 4 (fun _ => zm_169 (fun b hb => H s b h hb)) (fun z => absurd z (by omega)))
    (fun n i s hi h hw => pk_le 4 i (fun z => absurd z (by omega)) (fun _ => ⟨pk_in i 4 hi, nm_e (nm_r (nI_1 i) (hw _ (zm_Mfill (nI_clamp (by omega)) h)))⟩))
theorem zm_128 {post : St2 → Prop} {mc ms kc ks : Nat} (H : ∀ b2 b4 b7, zm_M 32 b2 → zm_M 4 b4 → zm_M 8 b7 → post (g1, g2, g3, g4, g5, a1, b2, a3, b4, a5, a6, b7, a8, a9, a10)) : ∃ n, wX_init_128 post mc ms kc ks g1 g2 g3 g4 g5 n 0 a1 a2 a3 a4 a5 a6 a7 a8 a9 a10 :=
  pk_loop (fun n i s => wX_init_128 post mc ms kc ks g1 g2 g3 g4 g5 n (nI i) a1 s a3 a4 a5 a6 a7 a8 a9 a10) (fun i s => zm_M i s) 32 0 a2 (by omega) zm_M0
    (fun n s h => pk_le 32 32 (fun _ => zm_149 (fun b4 b7 h4 h7 => H s b4 b7 h h4 h7)) (fun z => absurd z (by omega)))
    (fun n i s hi h hw => pk_le 32 i (fun z => absurd z (by omega)) (fun _ => ⟨pk_in i 32 hi, nm_e (nm_r (nI_1 i) (hw _ (zm_Mfill (nI_clamp (by omega)) h)))⟩))
theorem zm_100 {post : St2 → Prop} {mc ms kc ks : Nat} {x z : Int32} (H : ∀ (q : Nat) b2 b4 b7, 1 ≤ q → q ≤ 4 → zm_M 32 b2 → zm_M 4 b4 → zm_M 8 b7 → post (g1, g2, nI q, g4, z, a1, b2, a3, b4, a5, a6, b7, a8, a9, a10)) : wX_init_100 post mc ms x z kc ks g1 g2 g3 g4 g5 a1 a2 a3 a4 a5 a6 a7 a8 a9 a10 :=
  zm_clamp (A := fun y => ∃ n, wX_init_128 post mc ms kc ks g1 g2 y g4 z n 0 a1 a2 a3 a4 a5 a6 a7 a8 a9 a10) (fun q h1 h4 => zm_128 (fun b2 b4 b7 => H q b2 b4 b7 h1 h4))
theorem zm_init {post : St2 → Prop} {mc ms : Nat} {p0 p1 : Int32} (hc : 10 ≤ mc) (hs : 192 ≤ ms)
    (H : ∀ (q l : Nat) b2 b4 b7, 1 ≤ q → q ≤ 4 → 1 ≤ l → l ≤ 4 → zm_M 32 b2 → zm_M 4 b4 → zm_M 8 b7 → post (g1, g2, nI q, g4, nI l, (fun _ => 0), b2, (fun _ => 0), b4, (fun _ => 0), (fun _ => 0), b7, (fun _ => 0), (fun _ => 0), (fun _ => 0))) :
    wpX_init post mc ms (g1, g2, g3, g4, g5) p0 p1 :=
  ⟨by omega, by omega, by omega, by omega, by omega, by omega, by omega, by omega, by omega, by omega, by omega, by omega, by omega, by omega, by omega, by omega, by omega, by omega, by omega, by omega,
    zm_clamp (A := fun y => wX_init_100 post mc ms p1 y 10 192 g1 g2 g3 g4 g5 (fun _ => 0) (fun _ => 0) (fun _ => 0) (fun _ => 0) (fun _ => 0) (fun _ => 0) (fun _ => 0) (fun _ => 0) (fun _ => 0) (fun _ => 0)) (fun l h1 h4 => zm_100 (fun q b2 b4 b7 q1 q4 => H q l b2 b4 b7 q1 q4 h1 h4))⟩
/-- forget: only the kept entries change, and they only if one is e -/
theorem zm_forget {post : St2 → Prop} {e : Int32} {q : Nat} (hq : q ≤ 4) (H : ∀ b, ((∀ j, j < 4 → ¬ a4 j = e) → b = a4) → post (g1, g2, nI q, g4, g5, a1, a2, a3, b, a5, a6, a7, a8, a9, a10)) : wpX_forget post (g1, g2, nI q, g4, g5, a1, a2, a3, a4, a5, a6, a7, a8, a9, a10) e :=
  pk_loop (fun n i s => wX_forget_2 post e g1 g2 (nI q) g4 g5 n (nI i) a1 a2 a3 s a5 a6 a7 a8 a9 a10) (fun _ s => (∀ j, j < 4 → ¬ a4 j = e) → s = a4) q 0 a4 (by omega) (fun _ => rfl)
    (fun n s h => pk_le q q (fun _ => H s h) (fun z => absurd z (by omega)))
    (fun n i s hi h hw => pk_le q i (fun z => absurd z (by omega)) (fun _ => ⟨pk_in i 4 (by omega), br_c (fun t => ⟨pk_in i 4 (by omega), nm_e (nm_r (nI_1 i) (hw _ (fun k => by
      rw [nI_clamp (by omega), h k] at t
      exact absurd t (k i (by omega)))))⟩) (fun _ => nm_r (nI_1 i) (hw s h))⟩))
/-- map of a page, over entries that are all empty -/
theorem zm_mapY {post : Int32 → St2 → Prop} {q s p f : Nat} (hq : q ≤ 4) (hs : s ≤ 3) (hp : p ≤ 7) (hf : f ≤ 7) (h2 : zm_M 32 a2) (h4 : zm_M 4 a4)
    (H : post 0 (g1, g2, nI q, g4, g5, a1, upd a2 (8 * s + p) (nI f), upd a3 (8 * s + p) 1, a4, a5, a6, a7, a8, a9, a10)) : wpX_map post (g1, g2, nI q, g4, g5, a1, a2, a3, a4, a5, a6, a7, a8, a9, a10) (nI s) (nI p) (nI f) 1 := by
  have he : 8 * s + p < 32 := by omega
  unfold wpX_map
  dsimp only
  unfold wpX_isPage
  dsimp only
  refine pk_lt s 0 (fun z => absurd z (by omega)) (fun _ => pk_lt 3 s (fun z => absurd z (by omega)) (fun _ => pk_lt p 0 (fun z => absurd z (by omega)) (fun _ => pk_lt 7 p (fun z => absurd z (by omega)) (fun _ => br_f (by decide) ?_))))
  refine pk_lt f 0 (fun z => absurd z (by omega)) (fun _ => pk_le f 7 (fun _ => nm_r (zm_e8 s p) ⟨pk_in (8 * s + p) 32 he, br_f (by rw [nI_clamp (by omega), h2 _ he]; exact zm_neg) ?_⟩) (fun z => absurd z (by omega)))
  refine ⟨pk_in (8 * s + p) 32 he, nm_r (by rw [nI_clamp (by omega), zm_by f (by omega)]) ⟨pk_in (8 * s + p) 32 he, nm_r (by rw [nI_clamp (by omega), zm_nz]) (zm_forget hq (fun b hb => ?_))⟩⟩
  have eb := hb (fun j hj => by rw [h4 j hj]; exact zm_ne _ (by omega))
  rw [eb]
  exact H
/-- map of anything else -/
theorem zm_mapN {post : Int32 → St2 → Prop} {s p f x : Int32} (h : ¬ ((¬ s < 0 ∧ ¬ 3 < s) ∧ ¬ p < 0 ∧ ¬ 7 < p ∧ ¬ f < 0 ∧ ¬ 7 < f))
    (H : post (-1) (g1, g2, g3, g4, g5, a1, a2, a3, a4, a5, a6, a7, a8, a9, a10)) : wpX_map post (g1, g2, g3, g4, g5, a1, a2, a3, a4, a5, a6, a7, a8, a9, a10) s p f x := by
  unfold wpX_map
  dsimp only
  unfold wpX_isPage
  dsimp only
  refine br_c (fun _ => br_t rfl H) (fun c1 => br_c (fun _ => br_t rfl H) (fun c2 => br_c (fun _ => br_t rfl H) (fun c3 => br_c (fun _ => br_t rfl H) (fun c4 => br_f (by decide) ?_))))
  exact br_c (fun _ => H) (fun c5 => br_c (fun c6 => absurd ⟨⟨c1, c2⟩, c3, c4, c5, Int32.not_lt.mpr c6⟩ h) (fun _ => H))
theorem zm_enterY {post : Int32 → St2 → Prop} {s : Nat} (hs : s ≤ 3) (H : post 0 (nI s, g2, g3, g4, g5, a1, a2, a3, a4, a5, a6, a7, a8, a9, a10)) : wpX_enter post (g1, g2, g3, g4, g5, a1, a2, a3, a4, a5, a6, a7, a8, a9, a10) (nI s) :=
  pk_lt s 0 (fun z => absurd z (by omega)) (fun _ => pk_le s 3 (fun _ => H) (fun z => absurd z (by omega)))
theorem zm_enterN {post : Int32 → St2 → Prop} {s : Int32} (h : ¬ (¬ s < 0 ∧ ¬ 3 < s)) (H : post (-1) (g1, g2, g3, g4, g5, a1, a2, a3, a4, a5, a6, a7, a8, a9, a10)) : wpX_enter post (g1, g2, g3, g4, g5, a1, a2, a3, a4, a5, a6, a7, a8, a9, a10) s :=
  br_c (fun _ => H) (fun c1 => br_c (fun c2 => absurd ⟨c1, Int32.not_lt.mpr c2⟩ h) (fun _ => H))
/-- a page that isn't kept is looked up -/
theorem zm_look {post : Int32 → St2 → Prop} {c t q : Nat} (hc : c ≤ 3) (ht : t ≤ 7) (q1 : 1 ≤ q) (hq : q ≤ 4) (h4 : zm_M 4 a4)
    (H0 : ¬ 0 ≤ a2 (8 * c + t) → post (-1) (nI c, g2, nI q, 0, g5, a1, a2, a3, a4, a5, a6, a7, a8, a9, a10))
    (H1 : 0 ≤ a2 (8 * c + t) → ∀ k, post 0 (nI c, g2, nI q, k, g5, a1, a2, a3, upd a4 0 (nI (8 * c + t)), upd a5 0 (vp_nar .byte (a2 (8 * c + t))), upd a6 0 (vp_nar .boolean (a3 (8 * c + t))), a7, a8, a9, a10)) :
    wpX_translation post (nI c, g2, nI q, 0, g5, a1, a2, a3, a4, a5, a6, a7, a8, a9, a10) (nI t) := by
  have he : 8 * c + t < 32 := by omega
  have J : 0 ≤ a2 (8 * c + t) → ∀ k, wX_translation_78 post (nI (8 * c + t)) 0 k (nI c) g2 (nI q) 0 g5 a1 a2 a3 a4 a5 a6 a7 a8 a9 a10 := by
    intro h k
    unfold wX_translation_78
    rw [nI_clamp (show 8 * c + t < 2 ^ 31 by omega), zm_by _ (by omega), pk_cl 0 (x := 0)]
    exact ⟨pk_in 0 4 (by omega), nm_e ⟨pk_in _ 32 he, pk_in 0 4 (by omega), nm_e ⟨pk_in _ 32 he, pk_in 0 4 (by omega), nm_e (H1 h k)⟩⟩⟩
  unfold wpX_translation
  dsimp only
  refine nm_r (zm_e8 c t) ?_
  refine pk_loop (σ := Unit) (fun n i _ => wX_translation_12 post (nI (8 * c + t)) (nI c) g2 (nI q) 0 g5 a1 a2 a3 a4 a5 a6 a7 a8 a9 a10 n (nI i)) (fun _ _ => True) q 0 () (by omega) trivial ?_ ?_
  · intro n _ _
    refine pk_le q q (fun _ => ⟨pk_in _ 32 he, ?_⟩) (fun z => absurd z (by omega))
    rw [nI_clamp (show 8 * c + t < 2 ^ 31 by omega)]
    exact br_c (fun h => br_c (fun _ => J h _) (fun _ => J h _)) H0
  · intro n i _ hi _ hw
    exact pk_le q i (fun z => absurd z (by omega)) (fun _ => ⟨pk_in i 4 (by omega), br_f (by rw [nI_clamp (by omega), h4 i (by omega)]; exact zm_ne _ (by omega)) (nm_r (nI_1 i) (hw () trivial))⟩)
/-- a page that is kept in place 0 -/
theorem zm_kept {post : Int32 → St2 → Prop} {c t q : Nat} (q1 : 1 ≤ q) (hq : q ≤ 4) (h4 : a4 0 = nI (8 * c + t))
    (H : post 0 (nI c, g2, nI q, g4, g5, a1, a2, a3, a4, a5, a6, a7, a8, a9, a10)) : wpX_translation post (nI c, g2, nI q, g4, g5, a1, a2, a3, a4, a5, a6, a7, a8, a9, a10) (nI t) := by
  unfold wpX_translation
  dsimp only
  refine nm_r (zm_e8 c t) ⟨1, ?_⟩
  refine pk_le q 0 (fun z => absurd z (by omega)) (fun _ => ⟨pk_in 0 4 (by omega), br_t ?_ H⟩)
  rw [pk_cl 0 (x := 0)]
  exact h4
theorem zm_line {post : Int32 → Prop} {l w : Nat} (l1 : 1 ≤ l) (hl : l ≤ 4) (hw : w < 16) (H1 : a7 (w % l) = nI w → post (nI (w % l))) (H2 : ¬ a7 (w % l) = nI w → a7 (4 + w % l) = nI w → post (nI (4 + w % l)))
    (H3 : ¬ a7 (w % l) = nI w → ¬ a7 (4 + w % l) = nI w → post (-1)) : wpX_lineWith post (g1, g2, g3, g4, nI l, a1, a2, a3, a4, a5, a6, a7, a8, a9, a10) (nI w) := by
  have hk : w % l < 4 := Nat.lt_of_lt_of_le (Nat.mod_lt _ l1) hl
  refine ⟨nI_ne0 l1 (by omega), nm_r (pk_rem (by omega) l1 (by omega)) ⟨pk_in (w % l) 8 (by omega), ?_⟩⟩
  rw [zm_4, nI_clamp (show w % l < 2 ^ 31 by omega), nI_clamp (show 4 + w % l < 2 ^ 31 by omega)]
  exact br_c H1 (fun h => ⟨pk_in (4 + w % l) 8 (by omega), br_c (H2 h) (H3 h)⟩)
/-- a line without a block is given up -/
theorem zm_evict {post : St2 → Prop} {k : Nat} (hk : k < 8) (h7 : a7 k = -1) (H : post (g1, g2, g3, g4, g5, a1, a2, a3, a4, a5, a6, upd a7 k (-1), upd a8 k 0, a9, a10)) : wpX_evict post (g1, g2, g3, g4, g5, a1, a2, a3, a4, a5, a6, a7, a8, a9, a10) (nI k) := by
  refine ⟨pk_in k 8 hk, br_t (by rw [nI_clamp (by omega), h7]; exact zm_neg') ⟨pk_in k 8 hk, nm_r (by rw [nI_clamp (by omega)]) ⟨pk_in k 8 hk, nm_r (by rw [nI_clamp (by omega)]) H⟩⟩⟩
/-- a block is brought into an empty cache -/
theorem zm_bring {post : Int32 → St2 → Prop} {l w : Nat} (l1 : 1 ≤ l) (hl : l ≤ 4) (hw : w < 16) (h7 : zm_M 8 a7) (h10 : a10 (w % l) = 0)
    (H : ∀ b7 b8 b9 b10, b7 (4 + w % l) = nI w → (∀ j, j < 8 → j ≠ 4 + w % l → b7 j = -1) → (∀ i, i < 4 → b9 (4 * (4 + w % l) + i) = a1 (4 * w + i)) → post (nI (4 + w % l)) (g1, g2, g3, g4, nI l, a1, a2, a3, a4, a5, a6, b7, b8, b9, b10)) :
    wpX_bringIn post (g1, g2, g3, g4, nI l, a1, a2, a3, a4, a5, a6, a7, a8, a9, a10) (nI w) := by
  have hk : w % l < 4 := Nat.lt_of_lt_of_le (Nat.mod_lt _ l1) hl
  unfold wpX_bringIn
  dsimp only
  refine ⟨nI_ne0 l1 (by omega), nm_r (pk_rem (by omega) l1 (by omega)) (zm_line l1 hl hw (fun z => ?_) (fun _ z => ?_) (fun _ _ => br_f zm_neg ⟨pk_in _ 4 hk, br_t ?_ ?_⟩))⟩
  · rw [h7 _ (by omega)] at z
    exact absurd z (zm_ne _ (by omega))
  · rw [h7 _ (by omega)] at z
    exact absurd z (zm_ne _ (by omega))
  · rw [nI_clamp (by omega)]
    exact h10
  · rw [zm_4]
    generalize hL : 4 + w % l = L at H ⊢
    have hL8 : L < 8 := by omega
    unfold wX_bringIn_33
    refine zm_evict hL8 (h7 L hL8) ⟨pk_in L 8 hL8, nm_r (by rw [nI_clamp (by omega), zm_by w (by omega)]) ?_⟩
    refine pk_loop (fun n i s => wX_bringIn_50 post (nI w) (nI (w % l)) (nI L) g1 g2 g3 g4 (nI l) n (nI i) a1 a2 a3 a4 a5 a6 (upd (upd a7 L (-1)) L (nI w)) (upd a8 L 0) s a10) (fun i s => ∀ j, j < i → s (4 * L + j) = a1 (4 * w + j)) 4 0 a9 (by omega) (fun j hj => absurd hj (by omega)) ?_ ?_
    · intro n s h
      refine pk_le 4 4 (fun _ => ⟨pk_in _ 4 hk, nm_e (H _ _ s _ pk_us (fun j hj hn => ?_) h)⟩) (fun z => absurd z (by omega))
      rw [pk_un hn, pk_un hn]
      exact h7 j hj
    · intro n i s hi h hw'
      refine pk_le 4 i (fun z => absurd z (by omega)) (fun _ => ⟨pk_in (4 * w + i) 64 (by omega) (zm_e4 w i), pk_in (4 * L + i) 32 (by omega) (zm_e4 L i), nm_e (nm_r (nI_1 i) (hw' _ (fun j hj => ?_)))⟩)
      rw [zm_e4, zm_e4, nI_clamp (by omega), nI_clamp (by omega)]
      by_cases e : j = i
      · rw [e, pk_us]
      · rw [pk_un (by omega)]
        exact h j (by omega)
end
end
section
section
variable {g1 g2 g3 g4 g5 : Int32} {a1 a2 a3 a4 a5 a6 a7 a8 a9 a10 : Nat → Int32}
/-- a store through a page that is mapped and not kept, into an empty cache -/
theorem zm_storeH {post : Int32 → St2 → Prop} {c q l a f : Nat} {v : Int32} (hc : c ≤ 3) (q1 : 1 ≤ q) (hq : q ≤ 4) (l1 : 1 ≤ l) (hl : l ≤ 4) (ha : a < 64) (hf : f ≤ 7) (h4 : zm_M 4 a4) (h7 : zm_M 8 a7) (h10 : ∀ j, j < 4 → a10 j = 0)
    (h2 : a2 (8 * c + a / 8) = nI f) (h3 : a3 (8 * c + a / 8) = 1)
    (H : ∀ k b4 b5 b6 b7 b8 b9 b10, b4 0 = nI (8 * c + a / 8) → b5 0 = nI f → b7 (4 + (8 * f + a % 8) / 4 % l) = nI ((8 * f + a % 8) / 4) → (∀ j, j < 8 → j ≠ 4 + (8 * f + a % 8) / 4 % l → b7 j = -1) →
      (∀ i, i < 4 → b9 (4 * (4 + (8 * f + a % 8) / 4 % l) + i) = if i = (8 * f + a % 8) % 4 then v else a1 (4 * ((8 * f + a % 8) / 4) + i)) → post 0 (nI c, g2, nI q, k, nI l, a1, a2, a3, b4, b5, b6, b7, b8, b9, b10)) :
    wpX_store post (nI c, g2, nI q, 0, nI l, a1, a2, a3, a4, a5, a6, a7, a8, a9, a10) (nI a) v := by
  have hW : 8 * f + a % 8 < 64 := by omega
  have hk : (8 * f + a % 8) / 4 % l < 4 := Nat.lt_of_lt_of_le (Nat.mod_lt _ l1) hl
  unfold wpX_store
  dsimp only
  unfold wpX_change
  dsimp only
  refine pk_lt a 0 (fun z => absurd z (by omega)) (fun _ => pk_le a 63 (fun _ => ?_) (fun z => absurd z (by omega)))
  rw [zm_shr3 ha]
  refine zm_look hc (by omega) q1 hq h4 (fun z => ?_) (fun _ k => ?_)
  · rw [h2] at z
    exact absurd (nI_pos' (by omega)) z
  · dsimp only
    rw [pk_cl 0 (x := 0), pk_us, pk_us, h2, h3, zm_nz, zm_nb (by omega), zm_and7 ha]
    refine br_t (by decide) ⟨pk_in 0 4 (by omega), br_f (by decide) ⟨pk_in 0 4 (by omega), nm_r (zm_e8 f (a % 8)) ?_⟩⟩
    rw [zm_shr2 hW]
    refine zm_bring l1 hl (by omega) h7 (h10 _ hk) (fun b7 b8 b9 b10 e7 n7 e9 => ?_)
    dsimp only
    refine nm_r (by rw [zm_and3 hW, zm_e4]) (br_t rfl ⟨pk_in (4 * (4 + (8 * f + a % 8) / 4 % l) + (8 * f + a % 8) % 4) 32 (by omega), nm_e ⟨pk_in (4 + (8 * f + a % 8) / 4 % l) 8 (by omega), nm_e (H k (upd a4 0 (nI (8 * c + a / 8))) (upd a5 0 (nI f)) (upd a6 0 1) b7 _ _ b10 pk_us pk_us e7 n7 (fun i hi => ?_))⟩⟩)
    dsimp only
    rw [nI_clamp (show 4 * (4 + (8 * f + a % 8) / 4 % l) + (8 * f + a % 8) % 4 < 2 ^ 31 by omega)]
    by_cases e : i = (8 * f + a % 8) % 4
    · rw [if_pos e, e, pk_us]
    · rw [if_neg e, pk_un (by omega)]
      exact e9 i hi
theorem zm_storeM {post : Int32 → St2 → Prop} {c q a : Nat} {v : Int32} (hc : c ≤ 3) (q1 : 1 ≤ q) (hq : q ≤ 4) (ha : a < 64) (h4 : zm_M 4 a4) (h2 : a2 (8 * c + a / 8) = -1)
    (H : post (-2) (nI c, g2, nI q, 0, g5, a1, a2, a3, a4, a5, a6, a7, a8, a9, a10)) : wpX_store post (nI c, g2, nI q, 0, g5, a1, a2, a3, a4, a5, a6, a7, a8, a9, a10) (nI a) v := by
  unfold wpX_store
  dsimp only
  unfold wpX_change
  dsimp only
  refine pk_lt a 0 (fun z => absurd z (by omega)) (fun _ => pk_le a 63 (fun _ => ?_) (fun z => absurd z (by omega)))
  rw [zm_shr3 ha]
  refine zm_look hc (by omega) q1 hq h4 (fun _ => br_f zm_neg H) (fun z => ?_)
  rw [h2] at z
  exact absurd z zm_neg
theorem zm_storeN {post : Int32 → St2 → Prop} {a v : Int32} (h : ¬ (¬ a < 0 ∧ ¬ 63 < a)) (H : post (-1) (g1, g2, g3, g4, g5, a1, a2, a3, a4, a5, a6, a7, a8, a9, a10)) : wpX_store post (g1, g2, g3, g4, g5, a1, a2, a3, a4, a5, a6, a7, a8, a9, a10) a v := by
  unfold wpX_store
  dsimp only
  unfold wpX_change
  dsimp only
  exact br_c (fun _ => H) (fun c1 => br_c (fun c2 => absurd ⟨c1, Int32.not_lt.mpr c2⟩ h) (fun _ => H))
theorem zm_transH {post : Int32 → St2 → Prop} {c q a f : Nat} (q1 : 1 ≤ q) (hq : q ≤ 4) (ha : a < 64) (h4 : a4 0 = nI (8 * c + a / 8)) (h5 : a5 0 = nI f)
    (H : post (nI (8 * f + a % 8)) (nI c, g2, nI q, g4, g5, a1, a2, a3, a4, a5, a6, a7, a8, a9, a10)) : wpX_translate post (nI c, g2, nI q, g4, g5, a1, a2, a3, a4, a5, a6, a7, a8, a9, a10) (nI a) := by
  unfold wpX_translate
  dsimp only
  refine pk_lt a 0 (fun z => absurd z (by omega)) (fun _ => pk_le a 63 (fun _ => ?_) (fun z => absurd z (by omega)))
  rw [zm_shr3 ha]
  refine zm_kept q1 hq h4 ?_
  dsimp only
  rw [pk_cl 0 (x := 0), h5, zm_and7 ha, zm_e8]
  exact br_t (by decide) ⟨pk_in 0 4 (by omega), H⟩
theorem zm_transM {post : Int32 → St2 → Prop} {c q a : Nat} (hc : c ≤ 3) (q1 : 1 ≤ q) (hq : q ≤ 4) (ha : a < 64) (h4 : zm_M 4 a4) (h2 : a2 (8 * c + a / 8) = -1)
    (H : post (-2) (nI c, g2, nI q, 0, g5, a1, a2, a3, a4, a5, a6, a7, a8, a9, a10)) : wpX_translate post (nI c, g2, nI q, 0, g5, a1, a2, a3, a4, a5, a6, a7, a8, a9, a10) (nI a) := by
  unfold wpX_translate
  dsimp only
  refine pk_lt a 0 (fun z => absurd z (by omega)) (fun _ => pk_le a 63 (fun _ => ?_) (fun z => absurd z (by omega)))
  rw [zm_shr3 ha]
  refine zm_look hc (by omega) q1 hq h4 (fun _ => br_f zm_neg H) (fun z => ?_)
  rw [h2] at z
  exact absurd z zm_neg
theorem zm_transN {post : Int32 → St2 → Prop} {a : Int32} (h : ¬ (¬ a < 0 ∧ ¬ 63 < a)) (H : post (-1) (g1, g2, g3, g4, g5, a1, a2, a3, a4, a5, a6, a7, a8, a9, a10)) : wpX_translate post (g1, g2, g3, g4, g5, a1, a2, a3, a4, a5, a6, a7, a8, a9, a10) a :=
  br_c (fun _ => H) (fun c1 => br_c (fun c2 => absurd ⟨c1, Int32.not_lt.mpr c2⟩ h) (fun _ => H))
/-- the device reads an empty memory -/
theorem zm_devM {post : Int32 → Prop} {l : Nat} {w : Int32} (l1 : 1 ≤ l) (hl : l ≤ 4) (h7 : zm_M 8 a7) (h1 : ∀ j, j < 64 → a1 j = 0) (H : post 0) : wpX_deviceRead post (g1, g2, g3, g4, nI l, a1, a2, a3, a4, a5, a6, a7, a8, a9, a10) w := by
  refine br_c (fun _ => H) (fun c1 => br_c (fun c2 => ?_) (fun _ => H))
  obtain ⟨n, hn, rfl⟩ := nI_of2 (n := 63) (by decide) c1 c2
  have hk : n / 4 % l < 4 := Nat.lt_of_lt_of_le (Nat.mod_lt _ l1) hl
  rw [zm_shr2 (by omega)]
  refine zm_line l1 hl (by omega) (fun z => ?_) (fun _ z => ?_) (fun _ _ => br_t zm_neg' ⟨pk_in n 64 (by omega), ?_⟩)
  · rw [h7 _ (by omega)] at z
    exact absurd z (zm_ne _ (by omega))
  · rw [h7 _ (by omega)] at z
    exact absurd z (zm_ne _ (by omega))
  · rw [nI_clamp (by omega), h1 n (by omega)]
    exact H
/-- the device reads a memory of which one word was stored, into the cache -/
theorem zm_devH {post : Int32 → Prop} {l W : Nat} {w v : Int32} (l1 : 1 ≤ l) (hl : l ≤ 4) (hW : W < 64) (e7 : a7 (4 + W / 4 % l) = nI (W / 4)) (n7 : ∀ j, j < 8 → j ≠ 4 + W / 4 % l → a7 j = -1)
    (e9 : ∀ i, i < 4 → a9 (4 * (4 + W / 4 % l) + i) = if i = W % 4 then v else 0) (h1 : ∀ j, j < 64 → a1 j = 0) (H1 : w = nI W → post v) (H0 : ¬ w = nI W → post 0) : wpX_deviceRead post (g1, g2, g3, g4, nI l, a1, a2, a3, a4, a5, a6, a7, a8, a9, a10) w := by
  have hm : W / 4 % l < 4 := Nat.lt_of_lt_of_le (Nat.mod_lt _ l1) hl
  refine br_c (fun c1 => H0 (fun e => ?_)) (fun c1 => br_c (fun c2 => ?_) (fun c2 => H0 (fun e => ?_)))
  · rw [e] at c1
    exact nI_pos (by omega) c1
  · obtain ⟨n, hn, rfl⟩ := nI_of2 (n := 63) (by decide) c1 c2
    have hk : n / 4 % l < 4 := Nat.lt_of_lt_of_le (Nat.mod_lt _ l1) hl
    rw [zm_shr2 (by omega)]
    refine zm_line l1 hl (by omega) (fun z => ?_) (fun _ z => ?_) (fun _ z => br_t zm_neg' ⟨pk_in n 64 (by omega), ?_⟩)
    · rw [n7 _ (by omega) (by omega)] at z
      exact absurd z (zm_ne _ (by omega))
    · by_cases e : 4 + n / 4 % l = 4 + W / 4 % l
      · rw [e, e7] at z
        have e4 : W / 4 = n / 4 := (nI_eq (by omega) (by omega)).mp z
        rw [zm_and3 (by omega), zm_e4, e, nI_clamp (show 4 * (4 + W / 4 % l) + n % 4 < 2 ^ 31 by omega), e9 _ (by omega)]
        refine br_f (nI_pos (by omega)) ⟨pk_in (4 * (4 + W / 4 % l) + n % 4) 32 (by omega), ?_⟩
        by_cases i : n % 4 = W % 4
        · rw [if_pos i]
          exact H1 (congrArg nI (by omega))
        · rw [if_neg i]
          refine H0 (fun t => i ?_)
          rw [(nI_eq (by omega) (by omega)).mp t]
      · rw [n7 _ (by omega) e] at z
        exact absurd z (zm_ne _ (by omega))
    · rw [nI_clamp (by omega), h1 n (by omega)]
      refine H0 (fun t => z ?_)
      rw [(nI_eq (by omega) (by omega)).mp t]
      exact e7
  · rw [e] at c2
    exact c2 (nI_le (b := 63) (by omega) (by omega))
theorem zm_protH {post : Int32 → St2 → Prop} {f q : Nat} (hq : q ≤ 4) (hf : f ≤ 7) (H : ∀ b3 b4, post (nI (zm_c a2 a3 (nI f) 32)) (g1, g2, nI q, g4, g5, a1, a2, b3, b4, a5, a6, a7, a8, a9, a10)) : wpX_protect post (g1, g2, nI q, g4, g5, a1, a2, a3, a4, a5, a6, a7, a8, a9, a10) (nI f) := by
  refine pk_lt f 0 (fun z => absurd z (by omega)) (fun _ => pk_le f 7 (fun _ => ?_) (fun z => absurd z (by omega)))
  refine pk_loop (fun n i s => wX_protect_16 post (nI f) n (nI (zm_c a2 a3 (nI f) i)) (nI i) g1 g2 (nI q) g4 g5 a1 a2 s.1 s.2 a5 a6 a7 a8 a9 a10) (fun i s => ∀ j, i ≤ j → s.1 j = a3 j) 32 0 (a3, a4) (by omega) (fun _ _ => rfl) ?_ ?_
  · intro n s h
    exact pk_le 32 32 (fun _ => H s.1 s.2) (fun z => absurd z (by omega))
  · intro n i s hi h hw
    have hN : ¬ (a2 i = nI f ∧ ¬ a3 i = 0) → wX_protect_16 post (nI f) n (nI (zm_c a2 a3 (nI f) i)) (nI (i + 1)) g1 g2 (nI q) g4 g5 a1 a2 s.1 s.2 a5 a6 a7 a8 a9 a10 := by
      intro z
      have t : wX_protect_16 post (nI f) n (nI (zm_c a2 a3 (nI f) (i + 1))) (nI (i + 1)) g1 g2 (nI q) g4 g5 a1 a2 s.1 s.2 a5 a6 a7 a8 a9 a10 := hw s (fun j hj => h j (by omega))
      rw [zm_cN z] at t
      exact t
    have hY : (a2 i = nI f ∧ ¬ a3 i = 0) → ∀ b4, wX_protect_16 post (nI f) n (nI (zm_c a2 a3 (nI f) i + 1)) (nI (i + 1)) g1 g2 (nI q) g4 g5 a1 a2 (upd s.1 i 0) b4 a5 a6 a7 a8 a9 a10 := by
      intro z b4
      have t : wX_protect_16 post (nI f) n (nI (zm_c a2 a3 (nI f) (i + 1))) (nI (i + 1)) g1 g2 (nI q) g4 g5 a1 a2 (upd s.1 i 0) b4 a5 a6 a7 a8 a9 a10 := hw (upd s.1 i 0, b4) (fun j hj => by
        show upd s.1 i 0 j = a3 j
        rw [pk_un (by omega)]
        exact h j (by omega))
      rw [zm_cY z] at t
      exact t
    refine pk_le 32 i (fun z => absurd z (by omega)) (fun _ => ⟨pk_in i 32 hi, ?_⟩)
    rw [nI_clamp (show i < 2 ^ 31 by omega), h i (by omega)]
    exact br_c (fun c2 => ⟨pk_in i 32 hi, br_c (fun c3 => nm_r (nI_1 i) (hN (fun z => z.2 c3))) (fun c3 => ⟨pk_in i 32 hi, nm_e (zm_forget hq (fun b _ => nm_r (nI_1 _) (nm_r (nI_1 i) (hY ⟨c2, c3⟩ b))))⟩)⟩) (fun c2 => nm_r (nI_1 i) (hN (fun z => c2 z.1)))
theorem zm_protN {post : Int32 → St2 → Prop} {f : Int32} (h : ¬ (¬ f < 0 ∧ f ≤ 7)) (H : post (-1) (g1, g2, g3, g4, g5, a1, a2, a3, a4, a5, a6, a7, a8, a9, a10)) : wpX_protect post (g1, g2, g3, g4, g5, a1, a2, a3, a4, a5, a6, a7, a8, a9, a10) f :=
  br_c (fun _ => H) (fun c1 => br_c (fun c2 => absurd ⟨c1, c2⟩ h) (fun _ => H))
end
end
section
def zm_G (s : Int32) : Prop := ¬ s < 0 ∧ ¬ 3 < s
def zm_P (s p f : Int32) : Prop := zm_G s ∧ ¬ p < 0 ∧ ¬ 7 < p ∧ ¬ f < 0 ∧ ¬ 7 < f
def zm_A (a : Int32) : Prop := ¬ a < 0 ∧ ¬ 63 < a
def zm_H (s p f a : Int32) : Prop := zm_P s p f ∧ zm_A a ∧ a >>> ((3 : Int32) &&& 31) = p
/-- x says whether c -/
def zm_fl (c : Prop) (x : Int32) : Prop := (c ∧ x = 1) ∨ (¬ c ∧ x = 0)
theorem zm_flY {c : Prop} {x : Int32} (h : zm_fl c x) (hc : c) : x = 1 := by
  rcases h with h | h
  · exact h.2
  · exact absurd hc h.1
theorem zm_flN {c : Prop} {x : Int32} (h : zm_fl c x) (hc : ¬ c) : x = 0 := by
  rcases h with h | h
  · exact absurd h.1 hc
  · exact h.2
/-- a flag that was asked: not 0 says c, 0 says not c -/
theorem zm_flI {c : Prop} {x : Int32} (h : zm_fl c x) (hx : ¬ x = 0) : c := by
  rcases h with h | h
  · exact h.1
  · exact absurd h.2 hx
theorem zm_flO {c : Prop} {x : Int32} (h : zm_fl c x) (hx : x = 0) : ¬ c := by
  rcases h with h | h
  · rw [h.2] at hx
    exact absurd hx (by decide)
  · exact h.1
/-- what the law asks of protect: the frame is none, or x says how many entries are the frame's -/
def zm_F (f x : Int32) (f2 f3 : Nat → Int32) : Prop := ¬ (¬ f < 0 ∧ f ≤ 7) ∨ ∃ k : Nat, k ≤ 7 ∧ f = nI k ∧ ((x = 0 ∧ zm_c f2 f3 (nI k) 32 = 0) ∨ (x = 1 ∧ zm_c f2 f3 (nI k) 32 = 1))
section
variable {g1 g2 g3 g4 g5 : Int32} {a1 a2 a3 a4 a5 a6 a7 a8 a9 a10 : Nat → Int32} {post : Int32 → St0 → Prop} {mc ms kc ks : Nat}
theorem zm_241 {f x z : Int32} {q : Nat} (hq : q ≤ 4) (F : zm_F f x a2 a3) (H : post 1 ()) : wL_lawOf_241 post mc ms f x z z kc ks g1 g2 (nI q) g4 g5 a1 a2 a3 a4 a5 a6 a7 a8 a9 a10 := by
  unfold wL_lawOf_241
  refine br_t rfl ?_
  rcases F with h | ⟨k, hk, rfl, h⟩
  · exact zm_protN h (br_c (fun _ => br_t rfl H) (fun c1 => br_c (fun c2 => absurd ⟨c1, c2⟩ h) (fun _ => br_t rfl H)))
  · refine zm_protH hq hk (fun b3 b4 => ?_)
    dsimp only
    refine pk_lt k 0 (fun z => absurd z (by omega)) (fun _ => pk_le k 7 (fun _ => ?_) (fun z => absurd z (by omega)))
    rcases h with ⟨rfl, e⟩ | ⟨rfl, e⟩
    · rw [e]
      exact br_t rfl (br_t rfl H)
    · rw [e]
      exact br_f (by decide) (br_t rfl H)
/-- nothing is stored: the law from store on -/
theorem zm_164M {f a v w x7 x10 x11 z : Int32} {c q l : Nat} (hc : c ≤ 3) (q1 : 1 ≤ q) (hq : q ≤ 4) (l1 : 1 ≤ l) (hl : l ≤ 4) (h4 : zm_M 4 a4) (h7 : zm_M 8 a7) (h1 : ∀ j, j < 64 → a1 j = 0)
    (A : (¬ zm_A a ∧ x11 = -1) ∨ ∃ n : Nat, n < 64 ∧ a = nI n ∧ a2 (8 * c + n / 8) = -1 ∧ x11 = -2) (F : zm_F f x7 a2 a3) (H : post 1 ()) :
    wL_lawOf_164 post mc ms f a v w x7 0 x10 x11 z z kc ks (nI c) g2 (nI q) 0 (nI l) a1 a2 a3 a4 a5 a6 a7 a8 a9 a10 := by
  have K : wL_lawOf_211 post mc ms f v w x7 0 x10 x11 x11 kc ks (nI c) g2 (nI q) 0 (nI l) a1 a2 a3 a4 a5 a6 a7 a8 a9 a10 := by
    unfold wL_lawOf_211
    refine br_t rfl (zm_devM l1 hl h7 h1 (br_t rfl ?_))
    unfold wL_lawOf_240
    exact zm_241 hq F H
  unfold wL_lawOf_164
  refine br_t rfl ?_
  rcases A with ⟨hA, rfl⟩ | ⟨n, hn, rfl, h2, rfl⟩
  · refine zm_storeN hA (br_t rfl ?_)
    unfold wL_lawOf_188
    exact br_t rfl (zm_transN hA (br_t rfl K))
  · refine zm_storeM hc q1 hq hn h4 h2 (br_t rfl ?_)
    unfold wL_lawOf_188
    exact br_t rfl (zm_transM hc q1 hq hn h4 h2 (br_t rfl K))
/-- a word is stored: the law from store on -/
theorem zm_164H {v w x11 z : Int32} {c q l n f : Nat} (hc : c ≤ 3) (q1 : 1 ≤ q) (hq : q ≤ 4) (l1 : 1 ≤ l) (hl : l ≤ 4) (hn : n < 64) (hf : f ≤ 7) (h4 : zm_M 4 a4) (h7 : zm_M 8 a7) (h1 : ∀ j, j < 64 → a1 j = 0) (h10 : ∀ j, j < 4 → a10 j = 0)
    (h2 : a2 (8 * c + n / 8) = nI f) (h3 : a3 (8 * c + n / 8) = 1) (F : zm_F (nI f) 1 a2 a3) (H : post 1 ()) :
    wL_lawOf_164 post mc ms (nI f) (nI n) v w 1 1 (nI (8 * f + n % 8)) x11 z z kc ks (nI c) g2 (nI q) 0 (nI l) a1 a2 a3 a4 a5 a6 a7 a8 a9 a10 := by
  unfold wL_lawOf_164
  refine br_t rfl (zm_storeH hc q1 hq l1 hl hn hf h4 h7 h10 h2 h3 (fun k b4 b5 b6 b7 b8 b9 b10 e4 e5 e7 n7 e9 => br_f (by decide) ?_))
  unfold wL_lawOf_188
  refine br_t rfl (zm_transH q1 hq hn e4 e5 (br_f (by decide) ?_))
  unfold wL_lawOf_211
  refine br_t rfl (zm_devH l1 hl (by omega) e7 n7 (v := v) (fun i hi => ?_) h1 (fun e => br_f (by decide) (br_t e (zm_241 hq F H))) (fun e => br_f (by decide) (br_f e ?_)))
  · rw [e9 i hi, h1 _ (by omega)]
  · unfold wL_lawOf_240
    exact zm_241 hq F H
end
section
variable {post : Int32 → St0 → Prop} {mc ms kc ks : Nat} {s p f a v w : Int32}
theorem zm_111 {g m h z : Int32} (hg : zm_fl (zm_G s) g) (hm : zm_fl (zm_P s p f) m) (hh : zm_fl (zm_H s p f a) h) (hz : (zm_A a ∧ z = -2) ∨ (¬ zm_A a ∧ z = -1)) (H : post 1 ()) :
    wL_lawOf_111 post 11 207 s p f a v w g m h (8 * f + (a &&& 7)) z 0 0 := by
  refine ⟨by omega, by omega, 10, 192, by omega, by omega, zm_init (by omega) (by omega) (fun q l b2 b4 b7 q1 hq l1 hl h2 h4 h7 => ?_)⟩
  dsimp only
  by_cases hP : zm_P s p f
  · have em := zm_flY hm hP
    have eg := zm_flY hg hP.1
    subst em eg
    obtain ⟨⟨s1, s2⟩, p1, p2, f1, f2⟩ := id hP
    obtain ⟨s', hs, rfl⟩ := nI_of2 (n := 3) (by decide) s1 (Int32.not_lt.mp s2)
    obtain ⟨p', hp, rfl⟩ := nI_of2 (n := 7) (by decide) p1 (Int32.not_lt.mp p2)
    obtain ⟨f', hf, rfl⟩ := nI_of2 (n := 7) (by decide) f1 (Int32.not_lt.mp f2)
    have F : zm_F (nI f') 1 (upd b2 (8 * s' + p') (nI f')) (upd (fun _ => 0) (8 * s' + p') 1) := by
      refine Or.inr ⟨f', hf, rfl, Or.inr ⟨rfl, zm_c1 (e := 8 * s' + p') ⟨pk_us, ?_⟩ 32 (by omega) (fun j hj hn t => ?_)⟩⟩
      · rw [pk_us]
        decide
      · rw [pk_un hn, h2 j hj] at t
        exact zm_ne f' (by omega) t.1
    refine zm_mapY hq hs hp hf h2 h4 (br_f (by decide) ?_)
    unfold wL_lawOf_143
    refine br_t rfl (zm_enterY hs (br_f (by decide) ?_))
    dsimp only
    rcases hz with ⟨⟨z1, z2⟩, rfl⟩ | ⟨hA, rfl⟩
    · obtain ⟨n, hn, rfl⟩ := nI_of2 (n := 63) (by decide) z1 (Int32.not_lt.mp z2)
      have e3 := zm_shr3 (a := n) (by omega)
      by_cases e : n / 8 = p'
      · have eh := zm_flY hh ⟨hP, ⟨z1, z2⟩, by rw [e3, e]⟩
        subst eh
        rw [zm_and7 (by omega), zm_e8]
        exact zm_164H hs q1 hq l1 hl (by omega) hf h4 h7 (fun _ _ => rfl) (fun _ _ => rfl) (by rw [e, pk_us]) (by rw [e, pk_us]) F H
      · have eh := zm_flN hh (fun t => e (by
          have t2 := t.2.2
          rw [e3] at t2
          exact (nI_eq (by omega) (by omega)).mp t2))
        subst eh
        exact zm_164M hs q1 hq l1 hl h4 h7 (fun _ _ => rfl) (Or.inr ⟨n, by omega, rfl, by rw [pk_un (by omega)]; exact h2 _ (by omega), rfl⟩) F H
    · have eh := zm_flN hh (fun t => hA t.2.1)
      subst eh
      exact zm_164M hs q1 hq l1 hl h4 h7 (fun _ _ => rfl) (Or.inl ⟨hA, rfl⟩) F H
  · have em := zm_flN hm hP
    have eh := zm_flN hh (fun t => hP t.1)
    subst em eh
    have F : zm_F f 0 b2 (fun _ => 0) := by
      by_cases c : ¬ f < 0 ∧ f ≤ 7
      · obtain ⟨f', hf, rfl⟩ := nI_of2 (n := 7) (by decide) c.1 c.2
        refine Or.inr ⟨f', hf, rfl, Or.inl ⟨rfl, zm_c0 32 (fun j hj t => ?_)⟩⟩
        exact t.2 rfl
      · exact Or.inl c
    have A : ∀ c : Nat, c ≤ 3 → (¬ zm_A a ∧ z = -1) ∨ ∃ n : Nat, n < 64 ∧ a = nI n ∧ b2 (8 * c + n / 8) = -1 ∧ z = -2 := by
      intro c hc
      rcases hz with ⟨⟨z1, z2⟩, e⟩ | hA
      · obtain ⟨n, hn, rfl⟩ := nI_of2 (n := 63) (by decide) z1 (Int32.not_lt.mp z2)
        exact Or.inr ⟨n, by omega, rfl, h2 _ (by omega), e⟩
      · exact Or.inl hA
    refine zm_mapN hP (br_t rfl ?_)
    unfold wL_lawOf_143
    by_cases hG : zm_G s
    · have eg := zm_flY hg hG
      subst eg
      obtain ⟨s', hs, rfl⟩ := nI_of2 (n := 3) (by decide) hG.1 (Int32.not_lt.mp hG.2)
      exact br_t rfl (zm_enterY hs (br_f (by decide) (zm_164M hs q1 hq l1 hl h4 h7 (fun _ _ => rfl) (A s' hs) F H)))
    · have eg := zm_flN hg hG
      subst eg
      exact br_t rfl (zm_enterN hG (br_t rfl (zm_164M (c := 0) (by omega) q1 hq l1 hl h4 h7 (fun _ _ => rfl) (A 0 (by omega)) F H)))
theorem zm_87 {g m x h : Int32} (hg : zm_fl (zm_G s) g) (hm : zm_fl (zm_P s p f) m) (hx : zm_fl (zm_A a) x) (hh : zm_fl (zm_H s p f a) h) (H : post 1 ()) : wL_lawOf_87 post 11 207 s p f a v w g m x h 0 0 :=
  nm_e (br_c (fun c => zm_111 hg hm hh (Or.inr ⟨zm_flO hx c, rfl⟩) H) (fun c => zm_111 hg hm hh (Or.inl ⟨zm_flI hx c, rfl⟩) H))
theorem zm_63 {g m x : Int32} (hg : zm_fl (zm_G s) g) (hm : zm_fl (zm_P s p f) m) (hx : zm_fl (zm_A a) x) (H : post 1 ()) : wL_lawOf_63 post 11 207 s p f a v w g m x 0 0 :=
  br_c (fun c => zm_87 hg hm hx (Or.inr ⟨fun t => zm_flO hm c t.1, rfl⟩) H) (fun c1 => br_c (fun c => zm_87 hg hm hx (Or.inr ⟨fun t => zm_flO hx c t.2.1, rfl⟩) H) (fun c2 =>
    br_c (fun c => zm_87 hg hm hx (Or.inl ⟨⟨zm_flI hm c1, zm_flI hx c2, c⟩, rfl⟩) H) (fun c => zm_87 hg hm hx (Or.inr ⟨fun t => c t.2.2, rfl⟩) H)))
theorem zm_46 {g m : Int32} (hg : zm_fl (zm_G s) g) (hm : zm_fl (zm_P s p f) m) (H : post 1 ()) : wL_lawOf_46 post 11 207 s p f a v w g m 0 0 :=
  br_c (fun c => zm_63 hg hm (Or.inr ⟨fun t => t.1 c, rfl⟩) H) (fun c1 => br_c (fun c => zm_63 hg hm (Or.inr ⟨fun t => t.2 c, rfl⟩) H) (fun c2 => zm_63 hg hm (Or.inl ⟨⟨c1, c2⟩, rfl⟩) H))
theorem zm_14 {g : Int32} (hg : zm_fl (zm_G s) g) (H : post 1 ()) : wL_lawOf_14 post 11 207 s p f a v w g 0 0 :=
  br_c (fun c => zm_46 hg (Or.inr ⟨fun t => zm_flO hg c t.1, rfl⟩) H) (fun c1 => br_c (fun c => zm_46 hg (Or.inr ⟨fun t => t.2.1 c, rfl⟩) H) (fun c2 => br_c (fun c => zm_46 hg (Or.inr ⟨fun t => t.2.2.1 c, rfl⟩) H) (fun c3 =>
    br_c (fun c => zm_46 hg (Or.inr ⟨fun t => t.2.2.2.1 c, rfl⟩) H) (fun c4 => br_c (fun c => zm_46 hg (Or.inr ⟨fun t => t.2.2.2.2 c, rfl⟩) H) (fun c5 => zm_46 hg (Or.inl ⟨⟨zm_flI hg c1, c2, c3, c4, c5⟩, rfl⟩) H)))))
theorem zm_lawOf (H : post 1 ()) : wpL_lawOf post 11 207 () s p f a v w :=
  br_c (fun c => zm_14 (Or.inr ⟨fun t => t.1 c, rfl⟩) H) (fun c1 => br_c (fun c => zm_14 (Or.inr ⟨fun t => t.2 c, rfl⟩) H) (fun c2 => zm_14 (Or.inl ⟨⟨c1, c2⟩, rfl⟩) H))
end
theorem zm_cell {post : Int32 → Prop} {L : Nat} {xs : Nat → Int32} {x : Int32} (k : Nat) (hL : L ≤ 6) (hk : k ≤ 5) (H : ∀ r, post r) (hx : x = nI k := by rfl) : wpL_cellAt post L xs () x :=
  pk_le L k (fun _ => H _) (fun z => ⟨pk_in k L z hx, H _⟩) rfl hx
end
section
theorem i_vc (xs : Nat → Int32) (L : Nat) (hL : L ≤ 6) : wpL_law (fun r => r = 1) L xs :=
  zm_cell 0 hL (by omega) (fun _ => zm_cell 1 hL (by omega) (fun _ => zm_cell 2 hL (by omega) (fun _ => zm_cell 3 hL (by omega) (fun _ => zm_cell 4 hL (by omega) (fun _ => zm_cell 5 hL (by omega) (fun _ => ⟨11, 207, by omega, by omega, zm_lawOf rfl⟩))))))
end
