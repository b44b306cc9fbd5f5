section
/-! pure rows: places, shifts, counts -/
theorem sr_i4 (a b : Nat) : nI a * 4 + nI b = nI (a * 4 + b) := by
  have e : nI a * nI 4 + nI b = nI (a * 4 + b) := by rw [pk_mul, nI_add]
  exact e
theorem sr_i16 (a b : Nat) : nI a * 16 + nI b = nI (a * 16 + b) := by
  have e : nI a * nI 16 + nI b = nI (a * 16 + b) := by rw [pk_mul, nI_add]
  exact e
theorem sr_m4 (a : Nat) : nI a * 4 = nI (a * 4) := by
  have e : nI a * nI 4 = nI (a * 4) := pk_mul a 4
  exact e
theorem sr_16 (a : Nat) : (16 : Int32) + nI a = nI (16 + a) := by
  have e : nI 16 + nI a = nI (16 + a) := nI_add 16 a
  exact e
theorem sr_sh {n : Nat} (h : n < 64) : nI n >>> ((2 : Int32) &&& 31) = nI (n / 4) := pk_shrN (by omega) _ 2 (by decide)
theorem sr_an {n : Nat} (h : n < 64) : nI n &&& 3 = nI (n % 4) := pk_andN (by omega) 2 (by decide)
theorem sr_lt1 : (-1 : Int32) < 0 := by decide
theorem sr_xor : ∀ r, r < 8 → nI r ^^^ 4 = nI ((r + 4) % 8) := by decide +kernel
theorem sr_neg {x : Int32} (h : x = -1) : x < 0 := by rw [h]; decide
theorem sr_nneg {x : Int32} (h : x < 0) : ¬ 0 ≤ x := by
  intro z
  have := Int32.lt_iff_toInt_lt.mp h
  have := Int32.le_iff_toInt_le.mp z
  omega
theorem sr_ne {n : Nat} (h : n < 2 ^ 31) : ¬ (-1 : Int32) = nI n := by
  intro e
  exact nI_pos h (by rw [← e]; decide)
/-- how many of the first n places are above 0 -/
def sr_cnt (f : Nat → Int32) : Nat → Nat
  | 0 => 0
  | n + 1 => sr_cnt f n + (if f n ≤ 0 then 0 else 1)
theorem sr_cnt_le (f : Nat → Int32) (n : Nat) : sr_cnt f n ≤ n := by
  induction n with
  | zero => exact Nat.le_refl 0
  | succ n ih =>
    show sr_cnt f n + (if f n ≤ 0 then 0 else 1) ≤ n + 1
    by_cases c : f n ≤ 0
    · rw [if_pos c]; omega
    · rw [if_neg c]; omega
theorem sr_cnt_c {f g : Nat → Int32} {n : Nat} (h : ∀ j, j < n → f j = g j) : sr_cnt f n = sr_cnt g n := by
  induction n with
  | zero => rfl
  | succ n ih =>
    show sr_cnt f n + (if f n ≤ 0 then 0 else 1) = sr_cnt g n + (if g n ≤ 0 then 0 else 1)
    rw [ih (fun j hj => h j (by omega)), h n (by omega)]
/-- the last of the first n places that holds x, or -1 -/
def sr_hb (f : Nat → Int32) (x : Int32) : Nat → Int32
  | 0 => -1
  | n + 1 => if f n = x then nI n else sr_hb f x n
theorem sr_hb_none {f : Nat → Int32} {x : Int32} {n : Nat} (h : ∀ j, j < n → ¬ f j = x) : sr_hb f x n = -1 := by
  induction n with
  | zero => rfl
  | succ n ih =>
    show (if f n = x then nI n else sr_hb f x n) = -1
    rw [if_neg (h n (by omega))]
    exact ih (fun j hj => h j (by omega))
/-- the users: one frame, or two -/
def sr_u1 (q : Nat) (c : Int32) (j : Nat) : Int32 := if j = q then c else 0
def sr_u2 (q : Nat) (j : Nat) : Int32 := if j = q then 1 else if j = q + 4 then 1 else 0
theorem sr_cu0 : sr_cnt (fun _ => 0) 16 = 0 := by decide
theorem sr_cu1 : ∀ q, q < 4 → sr_cnt (sr_u1 q 2) 16 = 1 := by decide +kernel
theorem sr_cu2 : ∀ q, q < 4 → sr_cnt (sr_u2 q) 16 = 2 := by decide +kernel
theorem sr_cg0 : ∀ q, q < 4 → ¬ sr_cnt (fun j => sr_u1 q 2 (0 * 4 + j)) 4 = 0 := by decide +kernel
theorem sr_cg1 : ∀ q, q < 4 → sr_cnt (fun j => sr_u1 q 2 (1 * 4 + j)) 4 = 0 := by decide +kernel
theorem sr_cz0 : sr_cnt (fun _ => 0) 4 = 0 := by decide
theorem sr_nar0 : vp_nar .boolean 0 = 0 := by decide
end
section
/-! the methods that store nothing -/
section
variable {f0 : Int32} {a1 a2 a3 a4 a5 a6 a7 a8 : Nat → Int32}
theorem sr_frameOf {post : Int32 → Prop} {k : Nat} (hk : k < 32) (h5 : ∀ j, j < 8 → a5 j = -1) (H : post (a3 k)) : wpX_frameOf post (f0, a1, a2, a3, a4, a5, a6, a7, a8) (nI k) := by
  unfold wpX_frameOf
  dsimp only
  rw [sr_sh (by omega), nI_clamp (show k / 4 < 2 ^ 31 by omega), nI_clamp (show k < 2 ^ 31 by omega), h5 _ (by omega)]
  exact ⟨pk_in (k / 4) 8 (by omega), nm_e (br_t sr_lt1 ⟨pk_in k 32 hk, H⟩)⟩
theorem sr_fiu {post : Int32 → Prop} (H : post (nI (sr_cnt a2 16))) : wpX_framesInUse post (f0, a1, a2, a3, a4, a5, a6, a7, a8) := by
  unfold wpX_framesInUse
  dsimp only
  refine pk_loop (σ := Unit) (fun n i _ => wX_framesInUse_4 post f0 a1 a2 a3 a4 a5 a6 a7 a8 n (nI (sr_cnt a2 i)) (nI i)) (fun _ _ => True) 16 0 () (by omega) trivial (fun n _ _ => pk_le 16 16 (fun _ => H) (fun z => absurd z (by omega))) (fun n i _ hi _ hw => pk_le 16 i (fun z => absurd z (by omega)) (fun _ => ⟨pk_in i 16 hi, ?_⟩))
  have t : wX_framesInUse_4 post f0 a1 a2 a3 a4 a5 a6 a7 a8 n (nI (sr_cnt a2 i + (if a2 i ≤ 0 then 0 else 1))) (nI (i + 1)) := hw () trivial
  rw [nI_clamp (show i < 2 ^ 31 by omega)]
  refine br_c (fun c => nm_r (nI_1 i) ?_) (fun c => nm_r (nI_1 _) (nm_r (nI_1 i) ?_))
  · rw [if_pos c] at t
    exact t
  · rw [if_neg c] at t
    exact t
theorem sr_heldBy {post : Int32 → Prop} {x : Int32} (H : post (sr_hb a6 x 4)) : wpX_heldBy post (f0, a1, a2, a3, a4, a5, a6, a7, a8) x := by
  unfold wpX_heldBy
  dsimp only
  refine pk_loop (σ := Unit) (fun n i _ => wX_heldBy_4 post x f0 a1 a2 a3 a4 a5 a6 a7 a8 n (sr_hb a6 x i) (nI i)) (fun _ _ => True) 4 0 () (by omega) trivial (fun n _ _ => pk_le 4 4 (fun _ => H) (fun z => absurd z (by omega))) (fun n i _ hi _ hw => pk_le 4 i (fun z => absurd z (by omega)) (fun _ => ⟨pk_in i 4 hi, ?_⟩))
  have t : wX_heldBy_4 post x f0 a1 a2 a3 a4 a5 a6 a7 a8 n (if a6 i = x then nI i else sr_hb a6 x i) (nI (i + 1)) := hw () trivial
  rw [nI_clamp (show i < 2 ^ 31 by omega)]
  refine br_c (fun c => nm_r (nI_1 i) ?_) (fun c => nm_r (nI_1 i) ?_)
  · rw [if_pos c] at t
    exact t
  · rw [if_neg c] at t
    exact t
theorem sr_usedIn {post : Int32 → Prop} {g : Nat} (hg : g < 4) (H : post (nI (sr_cnt (fun j => a2 (g * 4 + j)) 4))) : wpX_usedIn post (f0, a1, a2, a3, a4, a5, a6, a7, a8) (nI g) := by
  unfold wpX_usedIn
  dsimp only
  refine pk_loop (σ := Unit) (fun n i _ => wX_usedIn_4 post (nI g) f0 a1 a2 a3 a4 a5 a6 a7 a8 n (nI (sr_cnt (fun j => a2 (g * 4 + j)) i)) (nI i)) (fun _ _ => True) 4 0 () (by omega) trivial (fun n _ _ => pk_le 4 4 (fun _ => H) (fun z => absurd z (by omega))) (fun n i _ hi _ hw => pk_le 4 i (fun z => absurd z (by omega)) (fun _ => ?_))
  have t : wX_usedIn_4 post (nI g) f0 a1 a2 a3 a4 a5 a6 a7 a8 n (nI (sr_cnt (fun j => a2 (g * 4 + j)) i + (if a2 (g * 4 + i) ≤ 0 then 0 else 1))) (nI (i + 1)) := hw () trivial
  rw [sr_i4, nI_clamp (show g * 4 + i < 2 ^ 31 by omega)]
  refine ⟨pk_in (g * 4 + i) 16 (by omega), br_c (fun c => nm_r (nI_1 i) ?_) (fun c => nm_r (nI_1 _) (nm_r (nI_1 i) ?_))⟩
  · rw [if_pos c] at t
    exact t
  · rw [if_neg c] at t
    exact t
theorem sr_emptyGroup {post : Int32 → Prop} {g : Nat} (hg : g < 4) (hl : ∀ i, i < g → ¬ sr_cnt (fun j => a2 (i * 4 + j)) 4 = 0) (hz : sr_cnt (fun j => a2 (g * 4 + j)) 4 = 0) (h6 : a6 g < 0) (H : post (nI g)) : wpX_emptyGroup post (f0, a1, a2, a3, a4, a5, a6, a7, a8) := by
  unfold wpX_emptyGroup
  dsimp only
  refine pk_loop (σ := Unit) (fun n i _ => wX_emptyGroup_2 post f0 a1 a2 a3 a4 a5 a6 a7 a8 n (nI i)) (fun _ _ => True) g 0 () (by omega) trivial (fun n _ _ => pk_le 4 g (fun z => absurd z (by omega)) (fun _ => sr_usedIn hg ?_)) (fun n i _ hi _ hw => pk_le 4 i (fun z => absurd z (by omega)) (fun _ => sr_usedIn (by omega) ?_))
  · rw [hz, nI_clamp (show g < 2 ^ 31 by omega)]
    exact br_t nI_0 ⟨pk_in g 4 hg, br_f (sr_nneg h6) H⟩
  · exact br_f (nI_ne0 (Nat.pos_of_ne_zero (hl i hi)) (Nat.lt_of_le_of_lt (sr_cnt_le _ 4) (by decide))) (nm_r (nI_1 i) (hw () trivial))
theorem sr_bad_ok {post : Int32 → Prop} {p v : Nat} (hp : p < 2) (hv : v < 16) (H : post 0) : wpX_bad post (f0, a1, a2, a3, a4, a5, a6, a7, a8) (nI p) (nI v) :=
  br_f (nI_pos (by omega)) (pk_lt 1 p (fun z => absurd z (by omega)) (fun _ => br_f (nI_pos (by omega)) (pk_le v 15 (fun _ => H) (fun z => absurd z (by omega)))))
theorem sr_bad {post : Int32 → Prop} {p v : Int32} (h1 : (p < 0 ∨ 1 < p ∨ v < 0 ∨ ¬ v ≤ 15) → post 1) (h0 : ¬ (p < 0 ∨ 1 < p ∨ v < 0 ∨ ¬ v ≤ 15) → post 0) : wpX_bad post (f0, a1, a2, a3, a4, a5, a6, a7, a8) p v :=
  br_c (fun z => h1 (Or.inl z)) (fun z1 => br_c (fun z => h1 (Or.inr (Or.inl z))) (fun z2 => br_c (fun z => h1 (Or.inr (Or.inr (Or.inl z)))) (fun z3 => br_c (fun z4 => h0 (fun t => t.elim z1 (fun t => t.elim z2 (fun t => t.elim z3 (fun t => t z4))))) (fun z => h1 (Or.inr (Or.inr (Or.inr z)))))))
theorem sr_read {post : Int32 → Prop} {p v w f : Nat} (hp : p < 2) (hv : v < 16) (hw : w < 4) (hf : f < 16) (h5 : ∀ j, j < 8 → a5 j = -1) (h3 : a3 (p * 16 + v) = nI f) (H : post (a1 (f * 4 + w))) : wpX_read post (f0, a1, a2, a3, a4, a5, a6, a7, a8) (nI p) (nI v) (nI w) := by
  unfold wpX_read
  dsimp only
  refine sr_bad_ok hp hv (br_t rfl (br_f (nI_pos (by omega)) (pk_le w 3 (fun _ => ?_) (fun z => absurd z (by omega)))))
  rw [sr_i16]
  refine sr_frameOf (by omega) h5 ?_
  rw [h3, sr_i4, nI_clamp (show f * 4 + w < 2 ^ 31 by omega)]
  exact br_t (nI_pos' (by omega)) ⟨pk_in (f * 4 + w) 64 (by omega), H⟩
theorem sr_read_bad {post : Int32 → Prop} {p v w : Int32} (h : p < 0 ∨ 1 < p ∨ v < 0 ∨ ¬ v ≤ 15 ∨ w < 0 ∨ ¬ w ≤ 3) (H : post 0) : wpX_read post (f0, a1, a2, a3, a4, a5, a6, a7, a8) p v w := by
  unfold wpX_read
  dsimp only
  refine sr_bad (fun _ => br_f (by decide) H) (fun n => br_t rfl (br_c (fun _ => H) (fun z => br_c (fun z2 => ?_) (fun _ => H))))
  exact absurd (h.elim Or.inl (fun h => h.elim (fun t => Or.inr (Or.inl t)) (fun h => h.elim (fun t => Or.inr (Or.inr (Or.inl t))) (fun h => h.elim (fun t => Or.inr (Or.inr (Or.inr t))) (fun h => h.elim (fun t => absurd t z) (fun t => absurd z2 t)))))) n
theorem sr_shared {post : Int32 → Prop} {v : Nat} (hv : v < 16) (h5 : ∀ j, j < 8 → a5 j = -1) (hn : a3 v < 0 → post 0) (h1 : ¬ a3 v < 0 → a3 v = a3 (16 + v) → post 1) (h0 : ¬ a3 v < 0 → ¬ a3 v = a3 (16 + v) → post 0) : wpX_shared post (f0, a1, a2, a3, a4, a5, a6, a7, a8) (nI v) := by
  unfold wpX_shared
  dsimp only
  refine br_f (nI_pos (by omega)) (pk_le v 15 (fun _ => sr_frameOf (by omega) h5 ?_) (fun z => absurd z (by omega)))
  rw [sr_16]
  exact sr_frameOf (by omega) h5 (br_c hn (fun z => br_c (h1 z) (h0 z)))
theorem sr_shared_bad {post : Int32 → Prop} {v : Int32} (h : v < 0 ∨ ¬ v ≤ 15) (H : post 0) : wpX_shared post (f0, a1, a2, a3, a4, a5, a6, a7, a8) v := by
  unfold wpX_shared
  dsimp only
  exact br_c (fun _ => H) (fun z => br_c (fun z2 => absurd h (fun t => t.elim z (fun t => t z2))) (fun _ => H))
theorem sr_inUse {post : Int32 → Prop} (H : post (nI (sr_cnt a2 16))) : wpX_inUse post (f0, a1, a2, a3, a4, a5, a6, a7, a8) := by
  unfold wpX_inUse
  dsimp only
  exact sr_fiu H
end
end
section
/-! the methods that store -/
section
variable {f0 : Int32} {a1 a2 a3 a4 a5 a6 a7 a8 : Nat → Int32}
theorem sr_fill {s : Nat → Int32} {i k e : Nat} {x : Int32} (hk : k = i) (h : ∀ j, j < i → s j = x) (he : i < e) : ∀ j, j < i + 1 → upd s k x j = x := by
  intro j hj
  rw [hk]
  by_cases c : j = i
  · rw [c, pk_us]
  · rw [pk_un c]
    exact h j (by omega)
theorem sr_init109 {post : St2 → Prop} {mc ms kc ks : Nat} (H : ∀ b, (∀ j, j < 4 → b j = -1) → post (f0, a1, a2, a3, a4, a5, b, a7, a8)) : ∃ n, wX_init_109 post mc ms kc ks f0 n 0 a1 a2 a3 a4 a5 a6 a7 a8 :=
  pk_loop (fun n i s => wX_init_109 post mc ms kc ks f0 n (nI i) a1 a2 a3 a4 a5 s a7 a8) (fun i s => ∀ j, j < i → s j = -1) 4 0 a6 (by omega) (fun j hj => absurd hj (by omega))
    (fun n s h => pk_le 4 4 (fun _ => H s h) (fun z => absurd z (by omega)))
    (fun n i s hi h hw => pk_le 4 i (fun z => absurd z (by omega)) (fun _ => ⟨pk_in i 4 hi, nm_e (nm_r (nI_1 i) (hw _ (sr_fill (nI_clamp (by omega)) h hi)))⟩))
theorem sr_init88 {post : St2 → Prop} {mc ms kc ks : Nat} (H : ∀ b c, (∀ j, j < 8 → b j = -1) → (∀ j, j < 4 → c j = -1) → post (f0, a1, a2, a3, a4, b, c, a7, a8)) : ∃ n, wX_init_88 post mc ms kc ks f0 n 0 a1 a2 a3 a4 a5 a6 a7 a8 :=
  pk_loop (fun n i s => wX_init_88 post mc ms kc ks f0 n (nI i) a1 a2 a3 a4 s a6 a7 a8) (fun i s => ∀ j, j < i → s j = -1) 8 0 a5 (by omega) (fun j hj => absurd hj (by omega))
    (fun n s h => pk_le 8 8 (fun _ => sr_init109 (fun c hc => H s c h hc)) (fun z => absurd z (by omega)))
    (fun n i s hi h hw => pk_le 8 i (fun z => absurd z (by omega)) (fun _ => ⟨pk_in i 8 hi, nm_e (nm_r (nI_1 i) (hw _ (sr_fill (nI_clamp (by omega)) h hi)))⟩))
theorem sr_init67 {post : St2 → Prop} {mc ms kc ks : Nat} (H : ∀ d b c, (∀ j, j < 32 → d j = -1) → (∀ j, j < 8 → b j = -1) → (∀ j, j < 4 → c j = -1) → post (f0, a1, a2, d, a4, b, c, a7, a8)) : ∃ n, wX_init_67 post mc ms kc ks f0 n 0 a1 a2 a3 a4 a5 a6 a7 a8 :=
  pk_loop (fun n i s => wX_init_67 post mc ms kc ks f0 n (nI i) a1 a2 s a4 a5 a6 a7 a8) (fun i s => ∀ j, j < i → s j = -1) 32 0 a3 (by omega) (fun j hj => absurd hj (by omega))
    (fun n s h => pk_le 32 32 (fun _ => sr_init88 (fun b c hb hc => H s b c h hb hc)) (fun z => absurd z (by omega)))
    (fun n i s hi h hw => pk_le 32 i (fun z => absurd z (by omega)) (fun _ => ⟨pk_in i 32 hi, nm_e (nm_r (nI_1 i) (hw _ (sr_fill (nI_clamp (by omega)) h hi)))⟩))
theorem sr_init {post : St2 → Prop} (H : ∀ d b c, (∀ j, j < 32 → d j = -1) → (∀ j, j < 8 → b j = -1) → (∀ j, j < 4 → c j = -1) → post (f0, (fun _ => 0), (fun _ => 0), d, (fun _ => 0), b, c, (fun _ => 0), (fun _ => 0))) : wpX_init post 8 164 f0 := by
  unfold wpX_init
  exact ⟨by omega, by omega, by omega, by omega, by omega, by omega, by omega, by omega, by omega, by omega, by omega, by omega, by omega, by omega, by omega, by omega, sr_init67 H⟩
/-- a frame for page k out of the empty group g -/
theorem sr_take {post : Int32 → St2 → Prop} {k g : Nat} (hk : k < 32) (hg : g < 4) (hh : sr_hb a6 (nI (k / 4)) 4 = -1) (hl : ∀ i, i < g → ¬ sr_cnt (fun j => a2 (i * 4 + j)) 4 = 0) (hz : sr_cnt (fun j => a2 (g * 4 + j)) 4 = 0) (h6 : a6 g < 0) (hu : a2 (g * 4 + k % 4) = 0)
    (H : ∀ f b7, post (nI (g * 4 + k % 4)) (f, a1, a2, a3, a4, a5, upd a6 g (nI (k / 4)), b7, a8)) : wpX_takeFrame post (f0, a1, a2, a3, a4, a5, a6, a7, a8) (nI k) := by
  unfold wpX_takeFrame
  dsimp only
  refine nm_r (sr_sh (by omega)) (sr_heldBy ?_)
  rw [hh]
  refine br_f (by decide) (sr_emptyGroup hg hl hz h6 (br_f (nI_pos (by omega)) ⟨pk_in g 4 hg, nm_e ?_⟩))
  rw [nI_clamp (show g < 2 ^ 31 by omega)]
  unfold wX_takeFrame_30
  rw [sr_an (by omega), sr_i4, nI_clamp (show g * 4 + k % 4 < 2 ^ 31 by omega)]
  exact br_f (nI_pos (by omega)) ⟨pk_in (g * 4 + k % 4) 16 (by omega), br_t hu (nm_e ⟨pk_in g 4 hg, nm_e (H _ _)⟩)⟩
theorem sr_copy {post : St2 → Prop} {f o : Nat} (hf : f < 16) (ho : o < 16) (H : ∀ b, (∀ j, (j < o * 4 ∨ o * 4 + 4 ≤ j) → b j = a1 j) → post (f0, b, a2, a3, a4, a5, a6, a7, a8)) : wpX_copyFrame post (f0, a1, a2, a3, a4, a5, a6, a7, a8) (nI f) (nI o) := by
  unfold wpX_copyFrame
  dsimp only
  refine pk_loop (fun n i s => wX_copyFrame_2 post (nI f) (nI o) f0 n (nI i) s a2 a3 a4 a5 a6 a7 a8) (fun i s => ∀ j, (j < o * 4 ∨ o * 4 + 4 ≤ j) → s j = a1 j) 4 0 a1 (by omega) (fun j _ => rfl) (fun n s h => pk_le 4 4 (fun _ => H s h) (fun z => absurd z (by omega))) (fun n i s hi h hw => pk_le 4 i (fun z => absurd z (by omega)) (fun _ => ?_))
  rw [sr_i4, sr_i4, nI_clamp (show o * 4 + i < 2 ^ 31 by omega)]
  refine ⟨pk_in (f * 4 + i) 64 (by omega), pk_in (o * 4 + i) 64 (by omega), nm_e (nm_r (nI_1 i) (hw _ (fun j hj => ?_)))⟩
  rw [pk_un (by omega)]
  exact h j hj
/-- release of a range whose page in the place i0 lies in the group g that the range holds: nothing changes -/
theorem sr_release {post : St2 → Prop} {r g q i0 : Nat} (hr : r < 8) (hg : g < 4) (hi0 : i0 < 4) (hq : q < 16) (hqg : q / 4 = g) (hh : sr_hb a6 (nI r) 4 = nI g) (h5 : ∀ j, j < 8 → a5 j = -1) (h3 : a3 (r * 4 + i0) = nI q) (H : post (f0, a1, a2, a3, a4, a5, a6, a7, a8)) : wpX_release post (f0, a1, a2, a3, a4, a5, a6, a7, a8) (nI r) := by
  unfold wpX_release
  dsimp only
  refine sr_heldBy ?_
  rw [hh, nI_clamp (show r < 2 ^ 31 by omega), h5 r hr]
  refine br_f (nI_pos (by omega)) ⟨pk_in r 8 hr, br_t sr_lt1 ?_⟩
  refine pk_loop (fun n i s => wX_release_25 post (nI r) (nI g) f0 a1 a2 a3 a4 a5 a6 a7 a8 n s (nI i)) (fun i s => (s = 0 ∨ s = 1) ∧ (i0 < i → s = 1)) 4 0 0 (by omega) ⟨Or.inl rfl, fun h => absurd h (by omega)⟩ (fun n s h => pk_le 4 4 (fun _ => br_f (by rw [h.2 (by omega)]; decide) H) (fun z => absurd z (by omega))) (fun n i s hi h hw => pk_le 4 i (fun z => absurd z (by omega)) (fun _ => ?_))
  rw [sr_i4, nI_clamp (show r * 4 + i < 2 ^ 31 by omega)]
  refine ⟨pk_in (r * 4 + i) 32 (by omega), nm_e ?_⟩
  by_cases e : i = i0
  · rw [e, h3, sr_sh (by omega), hqg]
    refine br_c (fun _ => br_f (nI_pos (by omega)) (br_t rfl (nm_r (nI_1 i0) ?_))) (fun _ => nm_r (nI_1 i0) ?_)
    · rw [← e]
      exact hw 1 ⟨Or.inr rfl, fun _ => rfl⟩
    · rw [← e]
      exact hw 1 ⟨Or.inr rfl, fun _ => rfl⟩
  · refine br_c (fun z => ?_) (fun _ => nm_r (nI_1 i) (hw 1 ⟨Or.inr rfl, fun _ => rfl⟩))
    have hn : ¬ i0 < i := fun t => absurd (h.2 t) (by rw [z]; decide)
    refine br_c (fun _ => nm_r (nI_1 i) (hw 0 ⟨Or.inl rfl, fun t => absurd t (by omega)⟩)) (fun _ => br_c (fun _ => nm_r (nI_1 i) (hw 1 ⟨Or.inr rfl, fun _ => rfl⟩)) (fun _ => nm_r (nI_1 i) (hw 0 ⟨Or.inl rfl, fun t => absurd t (by omega)⟩)))
/-- promote of a range that lacks its first or its second page: nothing changes -/
theorem sr_promote {post : St2 → Prop} {r : Nat} (hr : r < 8) (h5 : ∀ j, j < 8 → a5 j = -1) (h3 : a3 (r * 4) < 0 ∨ (vp_in (a3 (r * 4)) 16 ∧ a3 (r * 4 + 1) < 0)) (H : post (f0, a1, a2, a3, a4, a5, a6, a7, a8)) : wpX_promote post (f0, a1, a2, a3, a4, a5, a6, a7, a8) (nI r) := by
  unfold wpX_promote
  dsimp only
  rw [nI_clamp (show r < 2 ^ 31 by omega), h5 r hr]
  refine ⟨pk_in r 8 hr, br_t sr_lt1 (nm_r (sr_m4 r) ⟨2, ?_⟩)⟩
  have e0 : nI (r * 4) + 0 = nI (r * 4) := by
    have e : nI (r * 4) + nI 0 = nI (r * 4 + 0) := nI_add _ _
    exact e
  have c0 : (nI (r * 4)).toNatClampNeg = r * 4 := nI_clamp (by omega)
  have e1 : nI (r * 4) + nI 1 = nI (r * 4 + 1) := nI_add _ _
  have c1 : (nI (r * 4 + 1)).toNatClampNeg = r * 4 + 1 := nI_clamp (by omega)
  have F : ∀ x3 x4, a3 (r * 4 + 1) < 0 → wX_promote_22 post (nI r) (nI (r * 4)) f0 a1 a2 a3 a4 a5 a6 a7 a8 1 x3 x4 (nI 1) := by
    intro x3 x4 hn
    refine pk_le 4 1 (fun z => absurd z (by omega)) (fun _ => ?_)
    rw [e1, c1]
    exact ⟨pk_in (r * 4 + 1) 32 (by omega), nm_e (br_t hn H)⟩
  have G : ∀ x3, a3 (r * 4 + 1) < 0 → wX_promote_84 post (wX_promote_22 post (nI r) (nI (r * 4)) f0 a1 a2 a3 a4 a5 a6 a7 a8 1) (nI r) (nI (r * 4)) x3 1 (nI 0) (a3 (r * 4)) f0 a1 a2 a3 a4 a5 a6 a7 a8 := by
    intro x3 hn
    exact br_f (by decide) (br_c (fun _ => nm_r (nI_1 0) (F _ _ hn)) (fun _ => nm_r (nI_1 0) (F _ _ hn)))
  have K : wX_promote_22 post (nI r) (nI (r * 4)) f0 a1 a2 a3 a4 a5 a6 a7 a8 (1 + 1) (-1) 1 (nI 0) := by
    refine pk_le 4 0 (fun z => absurd z (by omega)) (fun _ => ?_)
    rw [nI_0, e0, c0]
    refine ⟨pk_in (r * 4) 32 (by omega), nm_e ?_⟩
    rcases h3 with h3 | h3
    · exact br_t h3 H
    · exact br_c (fun _ => H) (fun _ => ⟨h3.1, br_c (fun _ => ⟨pk_in (r * 4) 32 (by omega), pk_in (r * 4) 32 (by omega), br_t rfl (br_t rfl (nm_e (G _ h3.2)))⟩) (fun _ => H)⟩)
  exact K
/-- the frame f is cleared and becomes page k's -/
theorem sr_b42 {post : Int32 → St2 → Prop} {k f : Nat} (hk : k < 32) (hf : f < 16) (h5 : ∀ j, j < 8 → a5 j = -1) (h3 : ∀ j, j < 32 → a3 j = -1) (H : ∀ b, post 1 (f0, b, upd a2 f 1, upd a3 k (nI f), upd a4 k 0, a5, a6, a7, a8)) : ∃ n, wX_bringIn_42 post (nI k) (nI f) f0 n 0 a1 a2 a3 a4 a5 a6 a7 a8 := by
  refine pk_loop (fun n i s => wX_bringIn_42 post (nI k) (nI f) f0 n (nI i) s a2 a3 a4 a5 a6 a7 a8) (fun _ _ => True) 4 0 a1 (by omega) trivial (fun n s _ => pk_le 4 4 (fun _ => ?_) (fun z => absurd z (by omega))) (fun n i s hi _ hw => pk_le 4 i (fun z => absurd z (by omega)) (fun _ => ⟨?_, nm_e (nm_r (nI_1 i) (hw _ trivial))⟩))
  · rw [nI_clamp (show k < 2 ^ 31 by omega), nI_clamp (show f < 2 ^ 31 by omega), sr_sh (by omega)]
    refine ⟨pk_in f 16 hf, nm_e ⟨pk_in k 32 hk, nm_e ⟨pk_in k 32 hk, nm_e (sr_promote (by omega) h5 ?_ (H _))⟩⟩⟩
    by_cases e : k = k / 4 * 4
    · refine Or.inr ⟨?_, ?_⟩
      · rw [← e, pk_us]
        exact pk_in f 16 hf
      · rw [pk_un (by omega), h3 _ (by omega)]
        decide
    · refine Or.inl ?_
      rw [pk_un (by omega), h3 _ (by omega)]
      decide
  · rw [sr_i4]
    exact pk_in (f * 4 + i) 64 (by omega)
theorem sr_bringIn {post : Int32 → St2 → Prop} {k : Nat} (hk : k < 32) (h2 : ∀ j, j < 16 → a2 j = 0) (h3 : ∀ j, j < 32 → a3 j = -1) (h5 : ∀ j, j < 8 → a5 j = -1) (h6 : ∀ j, j < 4 → a6 j = -1)
    (H : ∀ f b b7, post 1 (f, b, upd a2 (k % 4) 1, upd a3 k (nI (k % 4)), upd a4 k 0, a5, upd a6 0 (nI (k / 4)), b7, a8)) : wpX_bringIn post (f0, a1, a2, a3, a4, a5, a6, a7, a8) (nI k) := by
  unfold wpX_bringIn
  dsimp only
  refine sr_frameOf hk h5 ?_
  refine br_t (sr_neg (h3 k hk)) (sr_fiu ?_)
  have e : sr_cnt a2 16 = 0 := by rw [sr_cnt_c (g := fun _ => 0) h2]; exact sr_cu0
  rw [e]
  refine br_f (by decide) (sr_take (g := 0) hk (by omega) (sr_hb_none (fun j hj => ?_)) (fun i hi => absurd hi (by omega)) ?_ (sr_neg (h6 0 (by omega))) (h2 _ (by omega)) (fun f b7 => ?_))
  · rw [h6 j hj]
    exact sr_ne (by omega)
  · rw [sr_cnt_c (g := fun _ => 0) (fun j hj => h2 _ (by omega))]
    exact sr_cz0
  · have e0 : 0 * 4 + k % 4 = k % 4 := by omega
    rw [e0]
    exact br_t (nI_pos' (by omega)) (sr_b42 hk (by omega) h5 h3 (fun b => H f b b7))
end
end
section
/-! write, split and what lies under them, in the three states that the law meets -/
section
variable {f0 : Int32} {a1 a2 a3 a4 a5 a6 a7 a8 : Nat → Int32}
/-- a range with one page k alone can't be promoted -/
theorem sr_pc {a : Nat → Int32} {k f r : Nat} (hr : k / 4 = r) (hk : k < 32) (hf : f < 16) (hka : a k = nI f) (ho : ∀ j, j < 32 → j / 4 = r → j ≠ k → a j = -1) : a (r * 4) < 0 ∨ (vp_in (a (r * 4)) 16 ∧ a (r * 4 + 1) < 0) := by
  by_cases e : k = r * 4
  · refine Or.inr ⟨?_, sr_neg (ho _ (by omega) (by omega) (by omega))⟩
    rw [← e, hka]
    exact pk_in f 16 hf
  · exact Or.inl (sr_neg (ho _ (by omega) (by omega) (by omega)))
theorem sr_openE {post : Int32 → St2 → Prop} {k : Nat} (hk : k < 32) (h2 : ∀ j, j < 16 → a2 j = 0) (h3 : ∀ j, j < 32 → a3 j = -1) (h5 : ∀ j, j < 8 → a5 j = -1) (h6 : ∀ j, j < 4 → a6 j = -1)
    (H : ∀ f b b7, post 0 (f, b, upd a2 (k % 4) 1, upd a3 k (nI (k % 4)), upd a4 k 0, a5, upd a6 0 (nI (k / 4)), b7, a8)) : wpX_open post (f0, a1, a2, a3, a4, a5, a6, a7, a8) (nI k) := by
  unfold wpX_open
  dsimp only
  exact sr_frameOf hk h5 (br_f (sr_nneg (sr_neg (h3 k hk))) (sr_bringIn hk h2 h3 h5 h6 (fun f b b7 => br_t (by decide) (H f b b7))))
/-- the first write -/
theorem sr_writeE {post : Int32 → St2 → Prop} {p v w : Nat} {x : Int32} (hp : p < 2) (hv : v < 16) (hw : w < 4) (h2 : ∀ j, j < 16 → a2 j = 0) (h3 : ∀ j, j < 32 → a3 j = -1) (h4 : ∀ j, j < 32 → a4 j = 0) (h5 : ∀ j, j < 8 → a5 j = -1) (h6 : ∀ j, j < 4 → a6 j = -1)
    (H : ∀ f b1 b2 b3 b4 b6 b7, b1 ((p * 16 + v) % 4 * 4 + w) = x → (∀ j, j < 16 → b2 j = sr_u1 ((p * 16 + v) % 4) 1 j) → b3 (p * 16 + v) = nI ((p * 16 + v) % 4) → (∀ j, j < 32 → j ≠ p * 16 + v → b3 j = -1) → (∀ j, j < 32 → b4 j = 0) → b6 0 = nI ((p * 16 + v) / 4) → (∀ j, 0 < j → j < 4 → b6 j = -1) → post 0 (f, b1, b2, b3, b4, a5, b6, b7, a8)) :
    wpX_write post (f0, a1, a2, a3, a4, a5, a6, a7, a8) (nI p) (nI v) (nI w) x := by
  unfold wpX_write
  dsimp only
  refine sr_bad_ok hp hv (br_t rfl (br_f (nI_pos (by omega)) (pk_le w 3 (fun _ => ?_) (fun z => absurd z (by omega)))))
  rw [sr_i16]
  generalize hk : p * 16 + v = k at H
  have hk' : k < 32 := by omega
  refine sr_openE hk' h2 h3 h5 h6 (fun f b b7 => br_t (by decide) (sr_frameOf hk' h5 ?_))
  dsimp only
  rw [pk_us, sr_i4, nI_clamp (show k % 4 * 4 + w < 2 ^ 31 by omega)]
  refine ⟨pk_in (k % 4 * 4 + w) 64 (by omega), nm_e (H f _ _ _ _ _ b7 pk_us (fun j hj => ?_) pk_us (fun j hj hn => ?_) (fun j hj => ?_) pk_us (fun j h0 hj => ?_))⟩
  · show (if j = k % 4 then 1 else a2 j) = (if j = k % 4 then 1 else 0)
    rw [h2 j hj]
  · rw [pk_un hn]
    exact h3 j hj
  · show (if j = k then 0 else a4 j) = 0
    rw [h4 j hj]
    exact ite_self 0
  · rw [pk_un (by omega)]
    exact h6 j hj
theorem sr_write_bad {post : Int32 → St2 → Prop} {p v w x : Int32} (h : p < 0 ∨ 1 < p ∨ v < 0 ∨ ¬ v ≤ 15 ∨ w < 0 ∨ ¬ w ≤ 3) (H : post (-1) (f0, a1, a2, a3, a4, a5, a6, a7, a8)) : wpX_write post (f0, a1, a2, a3, a4, a5, a6, a7, a8) p v w x := by
  unfold wpX_write
  dsimp only
  refine sr_bad (fun _ => br_f (by decide) H) (fun n => br_t rfl (br_c (fun _ => H) (fun z => br_c (fun z2 => ?_) (fun _ => H))))
  exact absurd (h.elim Or.inl (fun h => h.elim (fun t => Or.inr (Or.inl t)) (fun h => h.elim (fun t => Or.inr (Or.inr (Or.inl t))) (fun h => h.elim (fun t => Or.inr (Or.inr (Or.inr t))) (fun h => h.elim (fun t => absurd t z) (fun t => absurd z2 t)))))) n
/-- wpX_open of a page O that shares the frame O % 4 with the page P -/
theorem sr_open2 {post : Int32 → St2 → Prop} {P O : Nat} (hP : P < 32) (hO : O < 32) (hr : (O / 4 + 4) % 8 = P / 4) (hm : P % 4 = O % 4) (h2 : ∀ j, j < 16 → a2 j = sr_u1 (O % 4) 2 j) (h3P : a3 P = nI (O % 4)) (h3O : a3 O = nI (O % 4)) (h3 : ∀ j, j < 32 → j ≠ P → j ≠ O → a3 j = -1) (h4 : a4 O = 0) (h5 : ∀ j, j < 8 → a5 j = -1) (h60 : a6 0 = nI (P / 4)) (h6 : ∀ j, 0 < j → j < 4 → a6 j = -1)
    (H : ∀ f b b7, (∀ j, (j < (4 + O % 4) * 4 ∨ (4 + O % 4) * 4 + 4 ≤ j) → b j = a1 j) → post 0 (f, b, upd (upd a2 (O % 4) 1) (4 + O % 4) 1, upd a3 O (nI (4 + O % 4)), a4, a5, upd a6 1 (nI (O / 4)), b7, a8)) : wpX_open post (f0, a1, a2, a3, a4, a5, a6, a7, a8) (nI O) := by
  have hPO : P ≠ O := by omega
  have c2 : a2 (O % 4) = 2 := by
    rw [h2 _ (by omega)]
    exact if_pos rfl
  have e1 : sr_cnt a2 16 = 1 := by
    rw [sr_cnt_c h2]
    exact sr_cu1 _ (by omega)
  have g0 : ¬ sr_cnt (fun j => a2 (0 * 4 + j)) 4 = 0 := by
    rw [sr_cnt_c (g := fun j => sr_u1 (O % 4) 2 (0 * 4 + j)) (fun j hj => h2 _ (by omega))]
    exact sr_cg0 _ (by omega)
  have g1 : sr_cnt (fun j => a2 (1 * 4 + j)) 4 = 0 := by
    rw [sr_cnt_c (g := fun j => sr_u1 (O % 4) 2 (1 * 4 + j)) (fun j hj => h2 _ (by omega))]
    exact sr_cg1 _ (by omega)
  have hu : a2 (1 * 4 + O % 4) = 0 := by
    rw [h2 _ (by omega)]
    exact if_neg (by omega)
  have hh : sr_hb a6 (nI (O / 4)) 4 = -1 := by
    refine sr_hb_none (fun j hj => ?_)
    by_cases e : j = 0
    · rw [e, h60, nI_eq (by omega) (by omega)]
      omega
    · rw [h6 j (by omega) hj]
      exact sr_ne (by omega)
  have hh2 : sr_hb (upd a6 1 (nI (O / 4))) (nI (O / 4)) 4 = nI 1 := by
    show (if upd a6 1 (nI (O / 4)) 3 = nI (O / 4) then nI 3 else if upd a6 1 (nI (O / 4)) 2 = nI (O / 4) then nI 2 else if upd a6 1 (nI (O / 4)) 1 = nI (O / 4) then nI 1 else _) = nI 1
    rw [pk_us, pk_un (by omega), pk_un (by omega), h6 3 (by omega) (by omega), h6 2 (by omega) (by omega), if_neg (sr_ne (by omega)), if_neg (sr_ne (by omega)), if_pos rfl]
  have e4 : 1 * 4 + O % 4 = 4 + O % 4 := by omega
  have n1 : ∀ j, j < 32 → j / 4 = O / 4 → j ≠ O → upd a3 O (nI (4 + O % 4)) j = -1 := by
    intro j hj hq hn
    rw [pk_un hn]
    exact h3 j hj (by omega) hn
  have n2 : ∀ j, j < 32 → j / 4 = P / 4 → j ≠ P → upd a3 O (nI (4 + O % 4)) j = -1 := by
    intro j hj hq hn
    rw [pk_un (by omega)]
    exact h3 j hj hn (by omega)
  unfold wpX_open
  dsimp only
  rw [sr_sh (by omega), sr_xor _ (by omega), hr]
  refine sr_frameOf hO h5 ?_
  rw [h3O, nI_clamp (show O < 2 ^ 31 by omega), nI_clamp (show O % 4 < 2 ^ 31 by omega), h4, c2]
  refine br_t (nI_pos' (by omega)) ⟨pk_in O 32 hO, br_t rfl ⟨pk_in (O % 4) 16 (by omega), br_f (by decide) (sr_fiu ?_)⟩⟩
  rw [e1]
  refine br_f (by decide) (sr_take (g := 1) hO (by omega) hh (fun i hi => ?_) g1 (sr_neg (h6 1 (by omega) (by omega))) hu (fun f b7 => ?_))
  · have e : i = 0 := by omega
    rw [e]
    exact g0
  · rw [e4]
    refine br_t (nI_pos' (by omega)) (sr_copy (by omega) (by omega) (fun b hb => ?_))
    dsimp only
    refine ⟨pk_in (O % 4) 16 (by omega), nm_e ⟨pk_in (4 + O % 4) 16 (by omega), nm_e ⟨pk_in O 32 hO, nm_e ?_⟩⟩⟩
    rw [nI_clamp (show 4 + O % 4 < 2 ^ 31 by omega)]
    refine sr_release (g := 1) (q := 4 + O % 4) (i0 := O % 4) (by omega) (by omega) (by omega) (by omega) (by omega) hh2 h5 ?_ (sr_promote (by omega) h5 (sr_pc (f := 4 + O % 4) rfl hO (by omega) pk_us n1) (sr_promote (by omega) h5 (sr_pc (k := P) (f := O % 4) rfl hP (by omega) ?_ n2) (H f b b7 hb)))
    · rw [show O / 4 * 4 + O % 4 = O by omega]
      exact pk_us
    · dsimp only
      rw [pk_un hPO]
      exact h3P
/-- the second write -/
theorem sr_write2 {post : Int32 → St2 → Prop} {o v w P : Nat} {y : Int32} (ho : o < 2) (hv : v < 16) (hw : w < 4) (hP : P < 32) (hr : ((o * 16 + v) / 4 + 4) % 8 = P / 4) (hm : P % 4 = (o * 16 + v) % 4) (h2 : ∀ j, j < 16 → a2 j = sr_u1 (P % 4) 2 j) (h3P : a3 P = nI (P % 4)) (h3O : a3 (o * 16 + v) = nI (P % 4)) (h3 : ∀ j, j < 32 → j ≠ P → j ≠ o * 16 + v → a3 j = -1) (h4 : a4 (o * 16 + v) = 0) (h5 : ∀ j, j < 8 → a5 j = -1) (h60 : a6 0 = nI (P / 4)) (h6 : ∀ j, 0 < j → j < 4 → a6 j = -1)
    (H : ∀ f b1 b2 b3 b6 b7, b1 (P % 4 * 4 + w) = a1 (P % 4 * 4 + w) → b1 ((4 + P % 4) * 4 + w) = y → (∀ j, j < 16 → b2 j = sr_u2 (P % 4) j) → b3 P = nI (P % 4) → b3 (o * 16 + v) = nI (4 + P % 4) → post 0 (f, b1, b2, b3, a4, a5, b6, b7, a8)) :
    wpX_write post (f0, a1, a2, a3, a4, a5, a6, a7, a8) (nI o) (nI v) (nI w) y := by
  unfold wpX_write
  dsimp only
  refine sr_bad_ok ho hv (br_t rfl (br_f (nI_pos (by omega)) (pk_le w 3 (fun _ => ?_) (fun z => absurd z (by omega)))))
  rw [sr_i16]
  generalize hk : o * 16 + v = O at H h3O h3 h4 hr hm
  have hO : O < 32 := by omega
  rw [hm] at h2 h3P h3O H
  refine sr_open2 hP hO hr hm h2 h3P h3O h3 h4 h5 h60 h6 (fun f b b7 hb => br_t (by decide) (sr_frameOf hO h5 ?_))
  dsimp only
  rw [pk_us, sr_i4, nI_clamp (show (4 + O % 4) * 4 + w < 2 ^ 31 by omega)]
  refine ⟨pk_in ((4 + O % 4) * 4 + w) 64 (by omega), nm_e (H f _ _ _ _ b7 ?_ pk_us (fun j hj => ?_) ?_ pk_us)⟩
  · rw [pk_un (by omega)]
    exact hb _ (by omega)
  · show (if j = 4 + O % 4 then 1 else if j = O % 4 then 1 else a2 j) = (if j = O % 4 then 1 else if j = O % 4 + 4 then 1 else 0)
    by_cases e : j = O % 4
    · rw [if_neg (by omega), if_pos e, if_pos e]
    · by_cases e' : j = 4 + O % 4
      · rw [if_pos e', if_neg e, if_pos (by omega)]
      · rw [if_neg e', if_neg e, if_neg e, if_neg (by omega), h2 j hj]
        exact if_neg e
  · rw [pk_un (by omega)]
    exact h3P
theorem sr_demote {post : St2 → Prop} {r : Nat} (hr : r < 8) (h5 : ∀ j, j < 8 → a5 j = -1) (H : post (f0, a1, a2, a3, a4, a5, a6, a7, a8)) : wpX_demote post (f0, a1, a2, a3, a4, a5, a6, a7, a8) (nI r) := by
  unfold wpX_demote
  dsimp only
  rw [nI_clamp (show r < 2 ^ 31 by omega), h5 r hr]
  exact ⟨pk_in r 8 hr, nm_e (br_f (by decide) H)⟩
theorem sr_unmap {post : Int32 → St2 → Prop} {o : Nat} (ho : o < 2) (h5 : ∀ j, j < 8 → a5 j = -1) (h3 : ∀ j, j < 16 → a3 (o * 16 + j) = -1) (H : post 0 (f0, a1, a2, a3, a4, a5, a6, a7, a8)) : wpX_unmapRange post (f0, a1, a2, a3, a4, a5, a6, a7, a8) (nI o) 0 15 := by
  unfold wpX_unmapRange
  dsimp only
  refine sr_bad_ok (v := 0) ho (by omega) (br_t rfl (sr_bad_ok (v := 15) ho (by omega) (br_t rfl ?_)))
  refine pk_loop (σ := Unit) (fun n i _ => wX_unmapRange_26 post (nI o) 15 n 0 (nI i) f0 a1 a2 a3 a4 a5 a6 a7 a8) (fun _ _ => True) 16 0 () (by omega) trivial (fun n _ _ => pk_lt 15 16 (fun _ => H) (fun z => absurd z (by omega))) (fun n i _ hi _ hw => pk_lt 15 i (fun z => absurd z (by omega)) (fun _ => ?_))
  rw [sr_i16]
  exact sr_frameOf (by omega) h5 (br_t (sr_neg (h3 i hi)) (nm_r (nI_1 i) (hw () trivial)))
/-- split's last loop: the page v alone is there (v = 16: none) -/
theorem sr_s51 {post : Int32 → St2 → Prop} {p o v f : Nat} (hp : p < 2) (ho : o < 2) (hpo : p ≠ o) (hv : v ≤ 16) (hf : f < 16) (hn : ∀ j, j < 16 → j ≠ v → a3 (p * 16 + j) < 0) (hy : v < 16 → a3 (p * 16 + v) = nI f)
    (H0 : v = 16 → post 0 (f0, a1, a2, a3, a4, a5, a6, a7, a8)) (H1 : v < 16 → post 1 (f0, a1, upd a2 f 2, upd a3 (o * 16 + v) (nI f), upd a4 (o * 16 + v) (vp_nar .boolean (a4 (p * 16 + v))), a5, a6, a7, a8)) :
    ∃ n, wX_split_51 post (nI p) (nI o) f0 n 0 0 a1 a2 a3 a4 a5 a6 a7 a8 := by
  refine pk_loop (σ := Int32 × (Nat → Int32) × (Nat → Int32) × (Nat → Int32)) (fun n i s => wX_split_51 post (nI p) (nI o) f0 n s.1 (nI i) a1 s.2.1 s.2.2.1 s.2.2.2 a5 a6 a7 a8) (fun i s => (i ≤ v → s = (0, a2, a3, a4)) ∧ (v < i → s = (1, upd a2 f 2, upd a3 (o * 16 + v) (nI f), upd a4 (o * 16 + v) (vp_nar .boolean (a4 (p * 16 + v)))))) 16 0 (0, a2, a3, a4) (by omega) ⟨fun _ => rfl, fun h => absurd h (by omega)⟩ (fun n s h => pk_le 16 16 (fun _ => ?_) (fun z => absurd z (by omega))) (fun n i s hi h hw => pk_le 16 i (fun z => absurd z (by omega)) (fun _ => ?_))
  · by_cases e : v < 16
    · rw [h.2 e]
      exact H1 e
    · rw [h.1 (by omega)]
      exact H0 (by omega)
  · rcases Nat.lt_trichotomy i v with c | c | c
    · rw [h.1 (by omega)]
      dsimp only
      rw [sr_i16, nI_clamp (show p * 16 + i < 2 ^ 31 by omega)]
      exact ⟨pk_in (p * 16 + i) 32 (by omega), nm_e (br_t (hn i hi (by omega)) (nm_r (nI_1 i) (hw (0, a2, a3, a4) ⟨fun _ => rfl, fun t => absurd t (by omega)⟩)))⟩
    · rw [h.1 (by omega)]
      dsimp only
      rw [sr_i16, sr_i16, nI_clamp (show p * 16 + i < 2 ^ 31 by omega), nI_clamp (show o * 16 + i < 2 ^ 31 by omega), c, hy (by omega)]
      refine ⟨pk_in (p * 16 + v) 32 (by omega), nm_e (br_f (nI_pos (by omega)) ⟨pk_in (o * 16 + v) 32 (by omega), nm_e ⟨pk_in (p * 16 + v) 32 (by omega), pk_in (o * 16 + v) 32 (by omega), nm_e ⟨pk_in f 16 hf, nm_e (nm_r (show (0 : Int32) + 1 = 1 by decide) (nm_r (nI_1 v) ?_))⟩⟩⟩)⟩
      rw [nI_clamp (show f < 2 ^ 31 by omega)]
      have t := hw (1, upd a2 f 2, upd a3 (o * 16 + v) (nI f), upd a4 (o * 16 + v) (vp_nar .boolean (a4 (p * 16 + v)))) ⟨fun t => absurd t (by omega), fun _ => rfl⟩
      rw [c] at t
      exact t
    · rw [h.2 (by omega)]
      dsimp only
      rw [sr_i16, nI_clamp (show p * 16 + i < 2 ^ 31 by omega), pk_un (show p * 16 + i ≠ o * 16 + v by omega)]
      exact ⟨pk_in (p * 16 + i) 32 (by omega), nm_e (br_t (hn i hi (by omega)) (nm_r (nI_1 i) (hw (1, upd a2 f 2, upd a3 (o * 16 + v) (nI f), upd a4 (o * 16 + v) (vp_nar .boolean (a4 (p * 16 + v)))) ⟨fun t => absurd t (by omega), fun _ => rfl⟩)))⟩
theorem sr_split {post : Int32 → St2 → Prop} {p v f : Nat} (hp : p < 2) (h5 : ∀ j, j < 8 → a5 j = -1) (h3 : ∀ j, j < 16 → a3 ((1 - p) * 16 + j) = -1) (hv : v ≤ 16) (hf : f < 16) (hn : ∀ j, j < 16 → j ≠ v → a3 (p * 16 + j) < 0) (hy : v < 16 → a3 (p * 16 + v) = nI f)
    (H0 : v = 16 → post 0 (f0, a1, a2, a3, a4, a5, a6, a7, a8)) (H1 : v < 16 → post 1 (f0, a1, upd a2 f 2, upd a3 ((1 - p) * 16 + v) (nI f), upd a4 ((1 - p) * 16 + v) (vp_nar .boolean (a4 (p * 16 + v))), a5, a6, a7, a8)) :
    wpX_split post (f0, a1, a2, a3, a4, a5, a6, a7, a8) (nI p) := by
  unfold wpX_split
  dsimp only
  have es : (1 : Int32) - nI p = nI (1 - p) := pk_sub (a := 1) (by omega)
  refine br_f (nI_pos (by omega)) (pk_le p 1 (fun _ => nm_r es (sr_unmap (by omega) h5 h3 ?_)) (fun z => absurd z (by omega)))
  refine pk_loop (σ := Unit) (fun n i _ => wX_split_26 post (nI p) (nI (1 - p)) n (nI i) f0 a1 a2 a3 a4 a5 a6 a7 a8) (fun _ _ => True) 4 0 () (by omega) trivial (fun n _ _ => pk_le 4 4 (fun _ => sr_s51 hp (by omega) (by omega) hv hf hn hy H0 H1) (fun z => absurd z (by omega))) (fun n i _ hi _ hw => pk_le 4 i (fun z => absurd z (by omega)) (fun _ => ?_))
  rw [sr_i4]
  exact sr_demote (by omega) h5 (nm_r (nI_1 i) (hw () trivial))
theorem sr_split_bad {post : Int32 → St2 → Prop} {p : Int32} (h : p < 0 ∨ 1 < p) (H : post (-1) (f0, a1, a2, a3, a4, a5, a6, a7, a8)) : wpX_split post (f0, a1, a2, a3, a4, a5, a6, a7, a8) p := by
  unfold wpX_split
  dsimp only
  exact br_c (fun _ => H) (fun z => br_c (fun z2 => absurd h (fun t => t.elim z (fun t => Int32.not_lt.mpr z2 t))) (fun _ => H))
end
end
section
/-! the law -/
section
variable {f0 : Int32} {a1 a2 a3 a4 a5 a6 a7 a8 : Nat → Int32}
/-- the last checks: all is as it must be -/
theorem sr_fin_w {post : Int32 → St0 → Prop} {mc ms kc ks : Nat} {x y : Int32} (H : post 1 ()) : wL_lawOf_167 post mc ms x y 1 1 1 x 0 x y 2 0 1 1 kc ks :=
  br_f (by decide) (br_f (by decide) (br_t rfl (br_t rfl (br_f (by decide) (br_t rfl (br_f (by decide) (br_t rfl (br_f (by decide) (br_t rfl (br_f (by decide) (br_t rfl (br_f (by decide) (br_t rfl (br_f (by decide) (br_t rfl (br_t rfl H))))))))))))))))
theorem sr_fin_0 {post : Int32 → St0 → Prop} {mc ms kc ks : Nat} {x y : Int32} (H : post 1 ()) : wL_lawOf_166 post mc ms x y 0 0 0 0 (-1) 0 0 0 0 1 kc ks :=
  br_f (by decide) (br_t rfl (br_t rfl (br_t rfl (br_t rfl (br_t rfl (br_t rfl (br_t rfl (br_t rfl (br_t rfl (br_t rfl (br_t rfl (br_t rfl (br_t rfl (br_t rfl (br_t rfl (br_t rfl H))))))))))))))))
theorem sr_fin_m {post : Int32 → St0 → Prop} {mc ms kc ks : Nat} {x y : Int32} (H : post 1 ()) : wL_lawOf_166 post mc ms x y (-1) 0 0 0 (-1) 0 0 0 0 0 kc ks :=
  br_t rfl (br_t rfl (br_t rfl (br_t rfl (br_t rfl (br_t rfl (br_t rfl (br_t rfl (br_t rfl (br_t rfl (br_t rfl (br_t rfl (br_t rfl (br_t rfl (br_t rfl (br_t rfl H)))))))))))))))
theorem sr_sharedE {post : Int32 → Prop} (v : Int32) (h5 : ∀ j, j < 8 → a5 j = -1) (h3 : ∀ j, j < 32 → a3 j = -1) (H : post 0) : wpX_shared post (f0, a1, a2, a3, a4, a5, a6, a7, a8) v := by
  by_cases c : v < 0 ∨ ¬ v ≤ 15
  · exact sr_shared_bad c H
  · obtain ⟨j, hj, e⟩ := nI_of2 (M := 15) (n := 15) (by decide) (fun t => c (Or.inl t)) (Decidable.not_not.mp (fun t => c (Or.inr t)))
    rw [e]
    exact sr_shared (by omega) h5 (fun _ => H) (fun z => absurd (sr_neg (h3 j (by omega))) z) (fun z => absurd (sr_neg (h3 j (by omega))) z)
theorem sr_inUseE {post : Int32 → Prop} (h2 : ∀ j, j < 16 → a2 j = 0) (H : post 0) : wpX_inUse post (f0, a1, a2, a3, a4, a5, a6, a7, a8) := by
  refine sr_inUse ?_
  rw [sr_cnt_c (g := fun _ => 0) h2, sr_cu0]
  exact H
/-- a word: p, v, w in range -/
theorem sr_27w {post : Int32 → St0 → Prop} {mc ms kc ks : Nat} {p v w : Nat} {x y : Int32} (hp : p < 2) (hv : v < 16) (hw : w < 4) (h2 : ∀ j, j < 16 → a2 j = 0) (h3 : ∀ j, j < 32 → a3 j = -1) (h4 : ∀ j, j < 32 → a4 j = 0) (h5 : ∀ j, j < 8 → a5 j = -1) (h6 : ∀ j, j < 4 → a6 j = -1) (H : post 1 ()) :
    wL_lawOf_27 post mc ms (nI p) (nI v) (nI w) x y (nI (1 - p)) kc ks f0 a1 a2 a3 a4 a5 a6 a7 a8 := by
  unfold wL_lawOf_27
  refine sr_writeE hp hv hw h2 h3 h4 h5 h6 (fun f b1 b2 b3 b4 b6 b7 k1 k2 k3 k3' k4 k6 k6' => ?_)
  dsimp only
  have hq : (p * 16 + v) % 4 < 4 := by omega
  have ho : 1 - p < 2 := by omega
  refine sr_split (v := v) (f := (p * 16 + v) % 4) hp h5 (fun j hj => k3' _ (by omega) (by omega)) (by omega) (by omega) (fun j hj hn => sr_neg (k3' _ (by omega) (by omega))) (fun _ => k3) (fun t => absurd t (by omega)) (fun _ => ?_)
  dsimp only
  have m2 : ∀ j, j < 16 → upd b2 ((p * 16 + v) % 4) 2 j = sr_u1 ((p * 16 + v) % 4) 2 j := by
    intro j hj
    show (if j = (p * 16 + v) % 4 then 2 else b2 j) = (if j = (p * 16 + v) % 4 then 2 else 0)
    by_cases e : j = (p * 16 + v) % 4
    · rw [if_pos e, if_pos e]
    · rw [if_neg e, if_neg e, k2 j hj]
      exact if_neg e
  have m3P : upd b3 ((1 - p) * 16 + v) (nI ((p * 16 + v) % 4)) (p * 16 + v) = nI ((p * 16 + v) % 4) := by
    rw [pk_un (by omega)]
    exact k3
  have m3O : upd b3 ((1 - p) * 16 + v) (nI ((p * 16 + v) % 4)) ((1 - p) * 16 + v) = nI ((p * 16 + v) % 4) := pk_us
  have m3 : ∀ j, j < 32 → j ≠ p * 16 + v → j ≠ (1 - p) * 16 + v → upd b3 ((1 - p) * 16 + v) (nI ((p * 16 + v) % 4)) j = -1 := by
    intro j hj n1 n2
    rw [pk_un n2]
    exact k3' j hj n1
  have m4 : upd b4 ((1 - p) * 16 + v) (vp_nar .boolean (b4 (p * 16 + v))) ((1 - p) * 16 + v) = 0 := by
    rw [pk_us, k4 _ (by omega)]
    exact sr_nar0
  generalize upd b2 ((p * 16 + v) % 4) 2 = c2 at m2 ⊢
  generalize upd b3 ((1 - p) * 16 + v) (nI ((p * 16 + v) % 4)) = c3 at m3P m3O m3 ⊢
  generalize upd b4 ((1 - p) * 16 + v) (vp_nar .boolean (b4 (p * 16 + v))) = c4 at m4 ⊢
  have sv : ∀ (d : Nat → Int32) (s t : Nat), d (p * 16 + v) = nI s → d ((1 - p) * 16 + v) = nI t → (d v = nI s ∧ d (16 + v) = nI t) ∨ (d v = nI t ∧ d (16 + v) = nI s) := by
    intro d s t hs ht
    have : p = 0 ∨ p = 1 := by omega
    rcases this with e | e
    · rw [e, show 0 * 16 + v = v by omega] at hs
      rw [e, show (1 - 0) * 16 + v = 16 + v by omega] at ht
      exact Or.inl ⟨hs, ht⟩
    · rw [e, show 1 * 16 + v = 16 + v by omega] at hs
      rw [e, show (1 - 1) * 16 + v = v by omega] at ht
      exact Or.inr ⟨ht, hs⟩
  have s1 : c3 v = nI ((p * 16 + v) % 4) ∧ c3 (16 + v) = nI ((p * 16 + v) % 4) := (sv c3 _ _ m3P m3O).elim id id
  refine sr_shared hv h5 (fun z => absurd z (by rw [s1.1]; exact nI_pos (by omega))) (fun _ _ => ?_) (fun _ z => absurd (s1.1.trans s1.2.symm) z)
  refine sr_inUse ?_
  rw [sr_cnt_c m2, sr_cu1 _ hq]
  refine sr_read ho hv hw (by omega) h5 m3O ?_
  rw [k1]
  refine sr_write2 (P := p * 16 + v) ho hv hw (by omega) (by omega) (by omega) m2 m3P m3O m3 m4 h5 k6 k6' (fun g d1 d2 d3 d6 d7 n1 n1' n2 n3P n3O => ?_)
  dsimp only
  refine sr_read hp hv hw (by omega) h5 n3P ?_
  rw [n1, k1]
  refine sr_read ho hv hw (by omega) h5 n3O ?_
  rw [n1']
  refine sr_inUse ?_
  rw [sr_cnt_c n2, sr_cu2 _ hq]
  have s2 : ¬ d3 v < 0 ∧ ¬ d3 v = d3 (16 + v) := by
    rcases sv d3 _ _ n3P n3O with ⟨e1, e2⟩ | ⟨e1, e2⟩
    · rw [e1, e2, nI_eq (by omega) (by omega)]
      exact ⟨nI_pos (by omega), by omega⟩
    · rw [e1, e2, nI_eq (by omega) (by omega)]
      exact ⟨nI_pos (by omega), by omega⟩
  refine sr_shared hv h5 (fun z => absurd z s2.1) (fun _ z => absurd z s2.2) (fun _ _ => ?_)
  refine br_f (nI_pos (by omega)) (pk_lt 1 p (fun z => absurd z (by omega)) (fun _ => ?_))
  exact br_f (by decide) (br_f (nI_pos (by omega)) (pk_lt 15 v (fun z => absurd z (by omega)) (fun _ => br_f (nI_pos (by omega)) (pk_lt 3 w (fun z => absurd z (by omega)) (fun _ => sr_fin_w H)))))
/-- p in range, no word -/
theorem sr_27n {post : Int32 → St0 → Prop} {mc ms kc ks : Nat} {p : Nat} {z0 v w x y : Int32} (hp : p < 2) (hb : v < 0 ∨ ¬ v ≤ 15 ∨ w < 0 ∨ ¬ w ≤ 3) (h2 : ∀ j, j < 16 → a2 j = 0) (h3 : ∀ j, j < 32 → a3 j = -1) (h5 : ∀ j, j < 8 → a5 j = -1) (H : post 1 ()) :
    wL_lawOf_27 post mc ms (nI p) v w x y z0 kc ks f0 a1 a2 a3 a4 a5 a6 a7 a8 := by
  unfold wL_lawOf_27
  refine sr_write_bad (Or.inr (Or.inr hb)) (sr_split (v := 16) (f := 0) hp h5 (fun j hj => h3 _ (by omega)) (by omega) (by omega) (fun j hj _ => sr_neg (h3 _ (by omega))) (fun t => absurd t (by omega)) (fun _ => ?_) (fun t => absurd t (by omega)))
  refine sr_sharedE v h5 h3 (sr_inUseE h2 (sr_read_bad (Or.inr (Or.inr hb)) (sr_write_bad (Or.inr (Or.inr hb)) (sr_read_bad (Or.inr (Or.inr hb)) (sr_read_bad (Or.inr (Or.inr hb)) (sr_inUseE h2 (sr_sharedE v h5 h3 ?_)))))))
  refine br_f (nI_pos (by omega)) (pk_lt 1 p (fun z => absurd z (by omega)) (fun _ => br_f (by decide) ?_))
  refine br_c (fun _ => sr_fin_0 H) (fun z1 => br_c (fun _ => sr_fin_0 H) (fun z2 => br_c (fun _ => sr_fin_0 H) (fun z3 => br_c (fun _ => sr_fin_0 H) (fun z4 => ?_))))
  exact absurd hb (fun t => t.elim z1 (fun t => t.elim (fun t => t (Int32.not_lt.mp z2)) (fun t => t.elim z3 (fun t => t (Int32.not_lt.mp z4)))))
/-- p out of range -/
theorem sr_27m {post : Int32 → St0 → Prop} {mc ms kc ks : Nat} {p v w x y : Int32} (hb : p < 0 ∨ 1 < p) (h2 : ∀ j, j < 16 → a2 j = 0) (h3 : ∀ j, j < 32 → a3 j = -1) (h5 : ∀ j, j < 8 → a5 j = -1) (H : post 1 ()) :
    wL_lawOf_27 post mc ms p v w x y p kc ks f0 a1 a2 a3 a4 a5 a6 a7 a8 := by
  unfold wL_lawOf_27
  have hb' : p < 0 ∨ 1 < p ∨ v < 0 ∨ ¬ v ≤ 15 ∨ w < 0 ∨ ¬ w ≤ 3 := hb.elim Or.inl (fun t => Or.inr (Or.inl t))
  refine sr_write_bad hb' (sr_split_bad hb ?_)
  refine sr_sharedE v h5 h3 (sr_inUseE h2 (sr_read_bad hb' (sr_write_bad hb' (sr_read_bad hb' (sr_read_bad hb' (sr_inUseE h2 (sr_sharedE v h5 h3 ?_)))))))
  have F : wL_lawOf_135 post mc ms v w x y (-1) 0 0 0 (-1) 0 0 0 0 kc ks := br_t rfl (sr_fin_m H)
  exact br_c (fun _ => F) (fun z1 => br_c (fun _ => F) (fun z2 => absurd hb (fun t => t.elim z1 z2)))
theorem sr_three {p : Int32} (h0 : ¬ p = 0) (h1 : ¬ p = 1) : p < 0 ∨ 1 < p := by
  by_cases c : p < 0 ∨ 1 < p
  · exact c
  · obtain ⟨j, hj, e⟩ := nI_of2 (M := 1) (n := 1) (by decide) (fun t => c (Or.inl t)) (Int32.not_lt.mp (fun t => c (Or.inr t)))
    have : j = 0 ∨ j = 1 := by omega
    rcases this with z | z
    · rw [z] at e
      exact absurd e h0
    · rw [z] at e
      exact absurd e h1
theorem sr_pin {post : Int32 → St0 → Prop} {mc ms kc ks : Nat} {p : Nat} {v w x y : Int32} (hp : p < 2) (h2 : ∀ j, j < 16 → a2 j = 0) (h3 : ∀ j, j < 32 → a3 j = -1) (h4 : ∀ j, j < 32 → a4 j = 0) (h5 : ∀ j, j < 8 → a5 j = -1) (h6 : ∀ j, j < 4 → a6 j = -1) (H : post 1 ()) :
    wL_lawOf_27 post mc ms (nI p) v w x y (nI (1 - p)) kc ks f0 a1 a2 a3 a4 a5 a6 a7 a8 := by
  by_cases c : v < 0 ∨ ¬ v ≤ 15 ∨ w < 0 ∨ ¬ w ≤ 3
  · exact sr_27n hp c h2 h3 h5 H
  · obtain ⟨j, hj, e⟩ := nI_of2 (x := v) (M := 15) (n := 15) (by decide) (fun t => c (Or.inl t)) (Decidable.not_not.mp (fun t => c (Or.inr (Or.inl t))))
    obtain ⟨k, hk, e'⟩ := nI_of2 (x := w) (M := 3) (n := 3) (by decide) (fun t => c (Or.inr (Or.inr (Or.inl t)))) (Decidable.not_not.mp (fun t => c (Or.inr (Or.inr (Or.inr t)))))
    rw [e, e']
    exact sr_27w hp (by omega) (by omega) h2 h3 h4 h5 h6 H
theorem sr_lawOf {post : Int32 → St0 → Prop} {p v w x y : Int32} (H : post 1 ()) : wpL_lawOf post 9 173 () p v w x y := by
  unfold wpL_lawOf
  refine ⟨by omega, by omega, 8, 164, by omega, by omega, sr_init (fun d b c h3 h5 h6 => ?_)⟩
  dsimp only
  refine br_c (fun e => ?_) (fun n0 => br_c (fun e => ?_) (fun n1 => sr_27m (sr_three n0 n1) (fun _ _ => rfl) h3 h5 H))
  · rw [e]
    exact sr_pin (p := 0) (by omega) (fun _ _ => rfl) h3 (fun _ _ => rfl) h5 h6 H
  · rw [e]
    exact sr_pin (p := 1) (by omega) (fun _ _ => rfl) h3 (fun _ _ => rfl) h5 h6 H
theorem sr_cell {post : Int32 → Prop} {xs : Nat → Int32} {L : Nat} {u : St0} {z : Int32} (i : Nat) (hL : L ≤ 5) (hi : i < 5) (hz : z = nI i) (H : ∀ r, post r) : wpL_cellAt post L xs u z :=
  pk_le L i (fun _ => H _) (fun t => ⟨pk_in i L t hz (by omega), H _⟩) rfl hz
end
theorem i_vc (xs : Nat → Int32) (L : Nat) (hL : L ≤ 5) : wpL_law (fun r => r = 1) L xs :=
  sr_cell 0 hL (by omega) rfl (fun _ => sr_cell 1 hL (by omega) rfl (fun _ => sr_cell 2 hL (by omega) rfl (fun _ => sr_cell 3 hL (by omega) rfl (fun _ => sr_cell 4 hL (by omega) rfl (fun _ => ⟨9, 173, by omega, by omega, sr_lawOf rfl⟩)))))
end
