section
/-- the places f .. f + c - 1 as bits -/
def ps_w (f c : Nat) : Int32 := nI ((2 ^ c - 1) * 2 ^ f)
/-- a good run of places -/
def ps_g (f c : Int32) : Prop := ∃ F C : Nat, f = nI F ∧ c = nI C ∧ 1 ≤ C ∧ F + C ≤ 8
/-- a place of the run F, C -/
def ps_i (F C : Nat) (v : Int32) : Prop := ∃ j : Nat, v = nI (F + j) ∧ j < C
theorem ps_t_ff1 : ∀ c, c < 9 → ∀ i, i < c → ¬ (((nI (2 ^ c - 1)).toUInt32 >>> ((nI i).toUInt32 &&& Int32.toUInt32 31)).toInt32 &&& 1) = 0 := by decide +kernel
theorem ps_t_ff2 : ∀ c, c < 9 → (((nI (2 ^ c - 1)).toUInt32 >>> ((nI c).toUInt32 &&& Int32.toUInt32 31)).toInt32 &&& 1) = 0 := by decide +kernel
theorem ps_t_more : ∀ k, k < 8 → nI (2 ^ k - 1) ||| ((1 : Int32) <<< (nI k &&& 31)) = nI (2 ^ (k + 1) - 1) := by decide +kernel
theorem ps_t_w : ∀ f, f < 8 → ∀ k, k < 8 → f + k < 8 → ps_w f k ||| ((1 : Int32) <<< (nI (f + k) &&& 31)) = ps_w f (k + 1) := by decide +kernel
theorem ps_t_bit1 : ∀ f, f < 9 → ∀ c, c < 9 → f + c ≤ 8 → ∀ j, j < c → ¬ (((ps_w f c).toUInt32 >>> ((nI (f + j)).toUInt32 &&& Int32.toUInt32 31)).toInt32 &&& 1) = 0 := by decide +kernel
theorem ps_t_bit0a : ∀ f, f < 9 → ∀ c, c < 9 → f + c ≤ 8 → ∀ w, w < f → (((ps_w f c).toUInt32 >>> ((nI w).toUInt32 &&& Int32.toUInt32 31)).toInt32 &&& 1) = 0 := by decide +kernel
theorem ps_t_bit0b : ∀ f, f < 9 → ∀ c, c < 9 → ∀ w, w < 8 → f + c ≤ w → (((ps_w f c).toUInt32 >>> ((nI w).toUInt32 &&& Int32.toUInt32 31)).toInt32 &&& 1) = 0 := by decide +kernel
theorem ps_t_bit0 (f : Nat) (hf : f < 9) (c : Nat) (hc : c < 9) (h : f + c ≤ 8) (w : Nat) (hw : w < 8) (g : ¬ (f ≤ w ∧ w < f + c)) : (((ps_w f c).toUInt32 >>> ((nI w).toUInt32 &&& Int32.toUInt32 31)).toInt32 &&& 1) = 0 := by
  rcases Nat.lt_or_ge w f with z | z
  · exact ps_t_bit0a f hf c hc h w z
  · exact ps_t_bit0b f hf c hc w hw (by omega)
theorem ps_t_due : ∀ f, f < 9 → ∀ c, c < 9 → (((1 : Int32) <<< (nI c &&& 31)) - 1) <<< (nI f &&& 31) = ps_w f c := by decide +kernel
theorem ps_t_l1 : ∀ f, f < 9 → ∀ c, c < 9 → f + c ≤ 8 → ∀ j, j < c → ((ps_w f c >>> ((nI (f + j) &&& 7) &&& 31)) &&& 1) = 1 := by decide +kernel
theorem ps_t_l0a : ∀ f, f < 9 → ∀ c, c < 9 → f + c ≤ 8 → ∀ w, w < f → ¬ ((ps_w f c >>> ((nI w &&& 7) &&& 31)) &&& 1) = 1 := by decide +kernel
theorem ps_t_l0b : ∀ f, f < 9 → ∀ c, c < 9 → ∀ w, w < 8 → f + c ≤ w → ¬ ((ps_w f c >>> ((nI w &&& 7) &&& 31)) &&& 1) = 1 := by decide +kernel
theorem ps_t_l0 (f : Nat) (hf : f < 9) (c : Nat) (hc : c < 9) (h : f + c ≤ 8) (w : Nat) (hw : w < 8) (g : ¬ (f ≤ w ∧ w < f + c)) : ¬ ((ps_w f c >>> ((nI w &&& 7) &&& 31)) &&& 1) = 1 := by
  rcases Nat.lt_or_ge w f with z | z
  · exact ps_t_l0a f hf c hc h w z
  · exact ps_t_l0b f hf c hc w hw (by omega)
theorem ps_t_m : ∀ f, f < 9 → ∀ c, c < 9 → f + c ≤ 8 → ((((ps_w f c).toUInt32 >>> (((8 : Int32) * 0).toUInt32 &&& Int32.toUInt32 31)).toInt32) &&& 255) = ps_w f c := by decide +kernel
theorem ps_t_byte : ∀ k, k < 128 → (nI k).toInt8.toInt32 = nI k := by decide +kernel
theorem ps_t_has1 : ∀ w, w < 4 → w ≠ 0 → (((1 : Int32) >>> (nI w &&& 31)) &&& 1) = 0 := by decide +kernel
theorem ps_t_has0 : ∀ w, w < 4 → (((0 : Int32) >>> (nI w &&& 31)) &&& 1) = 0 := by decide +kernel
theorem ps_t_reg : ∀ i, i < 32 → 1 ≤ i → ((((1 : Int32).toUInt32 >>> ((nI i).toUInt32 &&& Int32.toUInt32 31)).toInt32) &&& 1) = 0 := by decide +kernel
theorem ps_80 (x : Int32) : 8 * 0 + x = x := by simp
theorem ps_c0 : (0 : Int32).toNatClampNeg = 0 := by decide
/-- a value between two bounds is a natural -/
theorem ps_nat {x : Int32} {a b : Nat} (hb : b < 2 ^ 31 - 1) (ha : a ≤ b) (h1 : ¬ x < nI a) (h2 : ¬ nI b < x) : ∃ j : Nat, a ≤ j ∧ j ≤ b ∧ x = nI j := by
  have e1 : ¬ x.toInt < (a : Int) := by
    rw [Int32.lt_iff_toInt_lt, nI_toInt (by omega)] at h1
    exact h1
  have e2 : ¬ (b : Int) < x.toInt := by
    rw [Int32.lt_iff_toInt_lt, nI_toInt (by omega)] at h2
    exact h2
  have hin : vp_in x (b + 1) := vp_in_iff.mpr (by omega)
  obtain ⟨j, hj, rfl⟩ := vp_in_of hin (by omega)
  rw [nI_toInt (by omega)] at e1
  exact ⟨j, by omega, by omega, rfl⟩
theorem ps_mk {f c : Int32} (h1 : ¬ c < 1) (h2 : ¬ 8 < c) (h3 : ¬ f < 0) (h4 : ¬ 8 ≤ f) (h5 : ¬ 8 < f + c) : ps_g f c := by
  obtain ⟨C, a1, a2, rfl⟩ := ps_nat (a := 1) (b := 8) (by omega) (by omega) h1 h2
  have h4' : ¬ (nI 8) < f := fun z => h4 (Int32.le_of_lt z)
  obtain ⟨F, _, b2, rfl⟩ := ps_nat (a := 0) (b := 8) (by omega) (by omega) h3 h4'
  refine ⟨F, C, rfl, rfl, a1, ?_⟩
  rw [nI_add] at h5
  by_cases h : F + C ≤ 8
  · exact h
  · exact absurd (nI_lt (a := 8) (b := F + C) (by omega) (by omega)) h5
theorem ps_mk2 {f c : Int32} (h1 : ¬ c < 1) (h2 : ¬ 8 < c) (h3 : ¬ f < 0) (h4 : ¬ 7 < f) (h5 : ¬ 8 - c < f) : ps_g f c := by
  obtain ⟨C, a1, a2, rfl⟩ := ps_nat (a := 1) (b := 8) (by omega) (by omega) h1 h2
  obtain ⟨F, _, b2, rfl⟩ := ps_nat (a := 0) (b := 7) (by omega) (by omega) h3 h4
  refine ⟨F, C, rfl, rfl, a1, ?_⟩
  have e : (8 : Int32) - nI C = nI (8 - C) := pk_sub (a := 8) a2
  rw [e] at h5
  by_cases h : F + C ≤ 8
  · exact h
  · exact absurd (nI_lt (a := 8 - C) (b := F) (by omega) (by omega)) h5
end
section
section
variable {f1 f2 f3 f4 f5 : Int32} {f6 : Int64} {a1 a2 a3 a4 a5 a6 a7 a8 a9 : Nat → Int32} {a10 : Nat → Int64}
theorem ps_init {post : St2 → Prop} {mc ms : Nat} (hm : 10 ≤ mc) (hs : 320 ≤ ms)
    (H : ∀ (a1 a2 a3 a4 a5 a6 a7 a8 a9 : Nat → Int32) (a10 : Nat → Int64), post (0, 0, 0, 0, 0, 0, 0, a1, a2, a3, a4, a5, a6, a7, a8, a9, a10)) :
    wpX_init post mc ms (0, 0, 0, 0, 0, 0, 0) := by
  unfold wpX_init
  refine ⟨by omega, by omega, by omega, by omega, by omega, by omega, by omega, by omega, by omega, by omega, by omega, by omega, by omega, by omega, by omega, by omega, by omega, by omega, by omega, by omega, ?_⟩
  exact pk_loop (fun n i s => wX_init_86 post mc ms 10 320 0 0 0 0 0 0 0 n (nI i) s (fun _ => 0) (fun _ => 0) (fun _ => 0) (fun _ => 0) (fun _ => 0) (fun _ => 0) (fun _ => 0) (fun _ => 0) (fun _ => 0)) (fun _ _ => True) 32 0 (fun _ => 0) (by omega) trivial
    (fun n s _ => pk_le 32 32 (fun _ => H _ _ _ _ _ _ _ _ _ _) (fun z => absurd z (by omega)))
    (fun n i s hi _ hw => pk_le 32 i (fun z => absurd z (by omega)) (fun _ => ⟨pk_in i 32 hi, nm_e (nm_r (nI_1 i) (hw _ trivial))⟩))
theorem ps_has0 {post : Int32 → Prop} (p : Int32) (H : post 0) : wpX_has post (0, f1, f2, f3, f4, f5, f6, a1, a2, a3, a4, a5, a6, a7, a8, a9, a10) p := by
  unfold wpX_has
  refine br_c (fun _ => H) (fun h1 => br_c (fun _ => H) (fun h2 => ?_))
  obtain ⟨w, _, hw, rfl⟩ := ps_nat (x := p) (a := 0) (b := 4) (by omega) (by omega) h1 (fun z => h2 (Int32.le_of_lt z))
  have hw' : w < 4 := by
    rcases Nat.lt_or_ge w 4 with z | z
    · exact z
    · exact absurd (nI_le (a := 4) (b := w) z (by omega)) h2
  exact br_t (ps_t_has0 w hw') H
theorem ps_has1 {post : Int32 → Prop} (p : Int32) (H1 : p = 0 → post 1) (H0 : ¬ p = 0 → post 0) : wpX_has post (1, f1, f2, f3, f4, f5, f6, a1, a2, a3, a4, a5, a6, a7, a8, a9, a10) p := by
  unfold wpX_has
  by_cases e : p = 0
  · have h := H1 e
    subst e
    exact br_f (by decide) (br_f (by decide) (br_f (by decide) h))
  · have H := H0 e
    refine br_c (fun _ => H) (fun h1 => br_c (fun _ => H) (fun h2 => ?_))
    obtain ⟨w, _, hw, rfl⟩ := ps_nat (x := p) (a := 0) (b := 4) (by omega) (by omega) h1 (fun z => h2 (Int32.le_of_lt z))
    have hw' : w < 4 := by
      rcases Nat.lt_or_ge w 4 with z | z
      · exact z
      · exact absurd (nI_le (a := 4) (b := w) z (by omega)) h2
    have hw0 : w ≠ 0 := by
      intro z
      subst z
      exact e rfl
    exact br_t (ps_t_has1 w hw' hw0) H
theorem ps_fork {post : Int32 → St2 → Prop} (p : Int32) (H : post (-1) (0, f1, f2, f3, f4, f5, f6, a1, a2, a3, a4, a5, a6, a7, a8, a9, a10)) :
    wpX_fork post (0, f1, f2, f3, f4, f5, f6, a1, a2, a3, a4, a5, a6, a7, a8, a9, a10) p := by
  unfold wpX_fork
  exact ps_has0 p (br_t rfl H)
theorem ps_spawn {post : Int32 → St2 → Prop} (H : post 0 (1, f1, f2, f3, f4, f5, f6, a1, a2, a3, a4, a5, a6, a7, a8, a9, a10)) :
    wpX_spawn post (0, f1, f2, f3, f4, f5, f6, a1, a2, a3, a4, a5, a6, a7, a8, a9, a10) := by
  unfold wpX_spawn
  dsimp only
  unfold wpX_freeProcess
  exact ⟨0 + 1, br_f (by decide) (ps_has0 0 (br_t rfl (br_f (by decide) (nm_r (show (0 : Int32) ||| ((1 : Int32) <<< ((0 : Int32) &&& 31)) = 1 by decide) H))))⟩
theorem ps_ff {post : Int32 → Prop} {k : Nat} (hk : k < 8) (H : post (nI k)) : wpX_firstFree post () (nI (2 ^ k - 1)) := by
  unfold wpX_firstFree
  exact pk_loop (σ := Unit) (fun n i _ => wX_firstFree_2 post (nI (2 ^ k - 1)) n (nI i)) (fun _ _ => True) k 0 () (by omega) trivial
    (fun n _ _ => pk_le 32 k (fun z => absurd z (by omega)) (fun _ => br_t (ps_t_ff2 k (by omega)) H))
    (fun n i _ hi _ hw => pk_le 32 i (fun z => absurd z (by omega)) (fun _ => br_f (ps_t_ff1 k (by omega) i hi) (nm_r (nI_1 i) (hw () trivial))))
theorem ps_fresh {post : Int32 → St2 → Prop} {f0 : Int32} (H : post 0 (f0, f1, f2, f3, f4, f5, 1, a1, a2, a3, a4, a5, a6, a7, a8, a9, a10)) :
    wpX_freshGroup post (f0, f1, f2, f3, f4, f5, 0, a1, a2, a3, a4, a5, a6, a7, a8, a9, a10) := by
  unfold wpX_freshGroup
  exact br_f (by decide) ⟨0 + 1, br_f (by decide) (br_t (by decide) (nm_r (show (0 : Int64) ||| ((1 : Int64) <<< ((0 : Int32).toInt64 &&& 63)) = 1 by decide) H))⟩
theorem ps_newRegion {post : Int32 → St2 → Prop} {f0 : Int32} {F C : Nat} (hF : F < 128) (hC : C < 128)
    (H : post 0 (f0, f1, f2, f3, f4, 1, f6, a1, a2, a3, a4, upd a5 0 0, upd a6 0 (nI F), upd a7 0 (nI C), upd a8 0 (nI F), a9, a10)) :
    wpX_newRegion post (f0, f1, f2, f3, f4, 0, f6, a1, a2, a3, a4, a5, a6, a7, a8, a9, a10) 0 (nI F) (nI C) (nI F) := by
  unfold wpX_newRegion
  dsimp only
  refine ps_ff (k := 0) (by omega) ?_
  refine nm_r (show (0 : Int32) ||| ((1 : Int32) <<< (nI 0 &&& 31)) = 1 by decide) ?_
  refine ⟨pk_in 0 32 (by omega), nm_r (show upd a5 (nI 0).toNatClampNeg (0 : Int32).toInt8.toInt32 = upd a5 0 0 from rfl) ?_⟩
  refine ⟨pk_in 0 32 (by omega), nm_r (show upd a6 (nI 0).toNatClampNeg (nI F).toInt8.toInt32 = upd a6 0 (nI F) by rw [ps_t_byte F hF]; rfl) ?_⟩
  refine ⟨pk_in 0 32 (by omega), nm_r (show upd a7 (nI 0).toNatClampNeg (nI C).toInt8.toInt32 = upd a7 0 (nI C) by rw [ps_t_byte C hC]; rfl) ?_⟩
  exact ⟨pk_in 0 32 (by omega), nm_r (show upd a8 (nI 0).toNatClampNeg (nI F).toInt8.toInt32 = upd a8 0 (nI F) by rw [ps_t_byte F hF]; rfl) H⟩
theorem ps_runOk {post : Int32 → Prop} {f c : Int32} (H1 : ps_g f c → post 1) (H0 : ¬ ps_g f c → post 0) : wpX_runOk post () f c := by
  unfold wpX_runOk
  by_cases g : ps_g f c
  · have h := H1 g
    obtain ⟨F, C, rfl, rfl, h1, h2⟩ := g
    rw [nI_add]
    exact br_f (nI_nlt (b := 1) h1 (by omega)) (br_f (nI_nlt (a := 8) (by omega) (by omega)) (br_f (nI_pos (by omega)) (br_f (nI_ge (b := 8) (by omega) (by omega)) (br_f (nI_nlt (a := 8) h2 (by omega)) h))))
  · have h := H0 g
    exact br_c (fun _ => h) (fun h1 => br_c (fun _ => h) (fun h2 => br_c (fun _ => h) (fun h3 => br_c (fun _ => h) (fun h4 => br_c (fun _ => h) (fun h5 => absurd (ps_mk h1 h2 h3 h4 h5) g)))))
theorem ps_newPage {post : St2 → Prop} {F k : Nat} (hk : F + k < 8) (e6 : a6 0 = nI F) (e8 : a8 0 = nI F) (e9 : a9 0 = 0)
    (H : ∀ f1 : Int32, post (1, f1, ps_w F (k + 1), nI (2 ^ (k + 1) - 1), nI (2 ^ (k + 1) - 1), f5, f6, upd a1 (F + k) (nI k), upd a2 k 0, upd a3 k 0, upd a4 k (nI (F + k)), a5, a6, a7, a8, a9, a10)) :
    wpX_newPage post (1, f1, ps_w F k, nI (2 ^ k - 1), nI (2 ^ k - 1), f5, f6, a1, a2, a3, a4, a5, a6, a7, a8, a9, a10) 0 (nI (F + k)) 0 0 := by
  have c1 : (nI k).toNatClampNeg = k := nI_clamp (by omega)
  have c2 : (nI (F + k)).toNatClampNeg = F + k := nI_clamp (by omega)
  have g2 : upd a2 (nI k).toNatClampNeg 0 = upd a2 k 0 := by rw [c1]
  have g3 : upd a3 (nI k).toNatClampNeg (vp_nar .byte (a9 (0 : Int32).toNatClampNeg)) = upd a3 k 0 := by
    rw [c1, ps_c0, e9]; rfl
  have g4 : upd a4 (nI k).toNatClampNeg ((a8 (0 : Int32).toNatClampNeg + nI (F + k) - a6 (0 : Int32).toNatClampNeg).toInt8.toInt32) = upd a4 k (nI (F + k)) := by
    rw [c1, ps_c0, e8, e6, nI_add, pk_sub (by omega), show F + (F + k) - F = F + k by omega, ps_t_byte _ (by omega)]
  have g1 : upd a1 (nI (F + k)).toNatClampNeg (nI k).toInt8.toInt32 = upd a1 (F + k) (nI k) := by
    rw [c2, ps_t_byte _ (by omega)]
  unfold wpX_newPage
  dsimp only
  refine ps_ff (k := k) (by omega) ?_
  refine nm_r (ps_80 _) (nm_r (ps_t_more k (by omega)) (nm_r (ps_t_more k (by omega)) ?_))
  refine ⟨pk_in k 32 (by omega), nm_r g2 ⟨pk_in 0 32 (by omega), pk_in k 32 (by omega), nm_r g3 ?_⟩⟩
  refine ⟨pk_in 0 32 (by omega), pk_in 0 32 (by omega), pk_in k 32 (by omega), nm_r g4 ?_⟩
  exact ⟨pk_in (F + k) 32 (by omega), nm_r g1 (nm_r (ps_t_w F (by omega) k (by omega) hk) (nm_e (H _)))⟩
end
end
section
/-- pages 0 .. k - 1 back the places F .. F + k - 1 -/
def ps_R (F k : Nat) (a1 a3 a4 : Nat → Int32) : Prop := ∀ j, j < k → a1 (F + j) = nI j ∧ a3 j = 0 ∧ a4 j = nI (F + j)
/-- region 0 is the run F, C of process 0 -/
def ps_Q (F C : Nat) (a5 a6 a7 a8 : Nat → Int32) (a10 : Nat → Int64) : Prop := a5 0 = 0 ∧ a6 0 = nI F ∧ a7 0 = nI C ∧ a8 0 = nI F ∧ a10 0 = 1
theorem ps_w0 (F : Nat) : ps_w F 0 = 0 := by
  unfold ps_w
  rw [show (2 ^ 0 - 1) * 2 ^ F = 0 by simp]
  rfl
theorem ps_ix {x : Int32} {n : Nat} (hn : n < 2 ^ 31) (h1 : ¬ x < 0) (h2 : ¬ nI n ≤ x) : ∃ w : Nat, w < n ∧ x = nI w := by
  rcases pk_ix x hn with z | z | z
  · exact absurd z h1
  · exact absurd z h2
  · exact z
theorem ps_R_step {F k : Nat} {a1 a3 a4 : Nat → Int32} (r : ps_R F k a1 a3 a4) : ps_R F (k + 1) (upd a1 (F + k) (nI k)) (upd a3 k 0) (upd a4 k (nI (F + k))) := by
  intro j hj
  by_cases e : j = k
  · subst e
    exact ⟨pk_us, pk_us, pk_us⟩
  · obtain ⟨h1, h3, h4⟩ := r j (by omega)
    rw [pk_un (by omega), pk_un e, pk_un e]
    exact ⟨h1, h3, h4⟩
section
variable {f1 f2 f3 f4 f5 : Int32} {f6 : Int64} {a1 a2 a3 a4 a5 a6 a7 a8 a9 : Nat → Int32} {a10 : Nat → Int64}
theorem ps_map72 {post : Int32 → St2 → Prop} {F C : Nat} (h : F + C ≤ 8) (e6 : a6 0 = nI F) (e8 : a8 0 = nI F) (e9 : a9 0 = 0)
    (H : ∀ (f1 : Int32) (a1 a2 a3 a4 : Nat → Int32), ps_R F C a1 a3 a4 → post 1 (1, f1, ps_w F C, nI (2 ^ C - 1), nI (2 ^ C - 1), f5, f6, a1, a2, a3, a4, a5, a6, a7, a8, a9, a10)) :
    ∃ n, wX_map_72 post 0 (nI F) (nI C) 0 n (nI F) 1 f1 0 0 0 f5 f6 a1 a2 a3 a4 a5 a6 a7 a8 a9 a10 := by
  have L : ∃ n, wX_map_72 post 0 (nI F) (nI C) 0 n (nI (F + 0)) 1 f1 (ps_w F 0) (nI (2 ^ 0 - 1)) (nI (2 ^ 0 - 1)) f5 f6 a1 a2 a3 a4 a5 a6 a7 a8 a9 a10 :=
    pk_loop (σ := Int32 × (Nat → Int32) × (Nat → Int32) × (Nat → Int32) × (Nat → Int32)) (fun n i s => wX_map_72 post 0 (nI F) (nI C) 0 n (nI (F + i)) 1 s.1 (ps_w F i) (nI (2 ^ i - 1)) (nI (2 ^ i - 1)) f5 f6 s.2.1 s.2.2.1 s.2.2.2.1 s.2.2.2.2 a5 a6 a7 a8 a9 a10)
      (fun i s => ps_R F i s.2.1 s.2.2.2.1 s.2.2.2.2) C 0 (f1, a1, a2, a3, a4) (by omega) (fun j hj => absurd hj (by omega))
      (fun n s r => pk_le (F + C) (F + C) (fun _ => H _ _ _ _ _ r) (fun z => absurd z (by omega)) (hx := nI_add F C))
      (fun n i s hi r hw => pk_le (F + C) (F + i) (fun z => absurd z (by omega)) (fun _ => ps_newPage (by omega) e6 e8 e9 (fun g1 => nm_r (nI_1 (F + i)) (hw (g1, _, _, _, _) (ps_R_step r)))) (hx := nI_add F C))
  rw [ps_w0] at L
  exact L
theorem ps_map {post : Int32 → St2 → Prop} {p f c : Int32} (H0 : ¬ (p = 0 ∧ ps_g f c) → post 0 (1, 0, 0, 0, 0, 0, 0, a1, a2, a3, a4, a5, a6, a7, a8, a9, a10))
    (H1 : ∀ F C : Nat, p = 0 → f = nI F → c = nI C → 1 ≤ C → F + C ≤ 8 → ∀ (f1 : Int32) (a1 a2 a3 a4 a5 a6 a7 a8 a9 : Nat → Int32) (a10 : Nat → Int64), ps_R F C a1 a3 a4 → ps_Q F C a5 a6 a7 a8 a10 → post 1 (1, f1, ps_w F C, nI (2 ^ C - 1), nI (2 ^ C - 1), 1, 1, a1, a2, a3, a4, a5, a6, a7, a8, a9, a10)) :
    wpX_map post (1, 0, 0, 0, 0, 0, 0, a1, a2, a3, a4, a5, a6, a7, a8, a9, a10) p f c := by
  unfold wpX_map
  dsimp only
  refine ps_has1 p (fun e => br_f (by decide) (ps_runOk (fun g => br_f (by decide) ?_) (fun g => br_t rfl (H0 (fun z => g z.2))))) (fun e => br_t rfl (H0 (fun z => e z.1)))
  subst e
  obtain ⟨F, C, rfl, rfl, h1, h2⟩ := g
  unfold wpX_run
  refine br_t (by simp) (ps_fresh ?_)
  dsimp only
  refine ps_newRegion (by omega) (by omega) ?_
  dsimp only
  refine ⟨pk_in 0 32 (by omega), nm_r (show upd a9 (0 : Int32).toNatClampNeg (0 : Int32).toInt8.toInt32 = upd a9 0 0 from rfl) ?_⟩
  refine ⟨pk_in 0 32 (by omega), nm_r (show vp_updL a10 (0 : Int32).toNatClampNeg ((1 : Int64) <<< ((0 : Int32).toInt64 &&& 63)) = vp_updL a10 0 1 from rfl) ?_⟩
  exact ps_map72 h2 pk_us pk_us pk_us (fun g1 b1 b2 b3 b4 r => H1 F C rfl rfl rfl h1 h2 g1 b1 b2 b3 b4 (upd a5 0 0) (upd a6 0 (nI F)) (upd a7 0 (nI C)) (upd a8 0 (nI F)) (upd a9 0 0) (vp_updL a10 0 1) r ⟨pk_us, pk_us, pk_us, pk_us, pk_uLs⟩)
theorem ps_isMapped {post : Int32 → Prop} {F C : Nat} (h : F + C ≤ 8) (v : Int32) (H1 : ps_i F C v → post 1) (H0 : ¬ ps_i F C v → post 0) :
    wpX_isMapped post (1, f1, ps_w F C, f3, f4, f5, f6, a1, a2, a3, a4, a5, a6, a7, a8, a9, a10) 0 v := by
  unfold wpX_isMapped
  dsimp only
  refine ps_has1 0 (fun _ => br_f (by decide) ?_) (fun e => absurd rfl e)
  rw [ps_80]
  by_cases g : ps_i F C v
  · have hp := H1 g
    obtain ⟨j, rfl, hj⟩ := g
    exact br_f (nI_pos (by omega)) (br_f (nI_ge (b := 8) (by omega) (by omega)) (br_f (ps_t_bit1 F (by omega) C (by omega) h j hj) hp))
  · have hp := H0 g
    refine br_c (fun _ => hp) (fun h1 => br_c (fun _ => hp) (fun h2 => ?_))
    obtain ⟨w, hw, rfl⟩ := ps_ix (n := 8) (by omega) h1 h2
    exact br_t (ps_t_bit0 F (by omega) C (by omega) h w hw (fun z => g ⟨w - F, by rw [show F + (w - F) = w by omega], by omega⟩)) hp
theorem ps_mapped {post : Int32 → Prop} {F C : Nat} (h : F + C ≤ 8) (p : Int32) (H1 : p = 0 → post (ps_w F C)) (H0 : ¬ p = 0 → post 0) :
    wpX_mapped post (1, f1, ps_w F C, f3, f4, f5, f6, a1, a2, a3, a4, a5, a6, a7, a8, a9, a10) p := by
  unfold wpX_mapped
  dsimp only
  refine ps_has1 p (fun e => br_f (by decide) ?_) (fun e => br_t rfl (H0 e))
  have hp := H1 e
  subst e
  rw [ps_t_m F (by omega) C (by omega) h]
  exact hp
theorem ps_bring {post : St2 → Prop} {f0 : Int32} {C j : Nat} (hC : C ≤ 8) (hj : j < C) (H : post (f0, f1, f2, f3, nI (2 ^ C - 1), f5, f6, a1, a2, a3, a4, a5, a6, a7, a8, a9, a10)) :
    wpX_bringIn post (f0, f1, f2, f3, nI (2 ^ C - 1), f5, f6, a1, a2, a3, a4, a5, a6, a7, a8, a9, a10) (nI j) := by
  unfold wpX_bringIn
  exact br_f (ps_t_ff1 C (by omega) j hj) H
theorem ps_walk {post : Int32 → Prop} {f0 : Int32} {F C j : Nat} (h : F + C ≤ 8) (hj : j < C) (r : ps_R F C a1 a3 a4) (q : ps_Q F C a5 a6 a7 a8 a10) (H : post ((1 : Int32) <<< (nI (F + j) &&& 31))) :
    wpX_walk post (f0, f1, f2, f3, f4, 1, f6, a1, a2, a3, a4, a5, a6, a7, a8, a9, a10) (nI j) := by
  obtain ⟨r1, r3, r4⟩ := r j hj
  obtain ⟨q5, q6, q7, q8, q10⟩ := q
  have c1 : (nI j).toNatClampNeg = j := nI_clamp (by omega)
  have c2 : (nI (F + j)).toNatClampNeg = F + j := nI_clamp (by omega)
  have L : ∃ n, wX_walk_4 post (nI j) f0 f1 f2 f3 f4 1 f6 a1 a2 a3 a4 a5 a6 a7 a8 a9 a10 n ((1 : Int32) <<< (nI (F + j) &&& 31)) (nI 1) :=
    pk_loop (σ := Unit) (fun n i _ => wX_walk_4 post (nI j) f0 f1 f2 f3 f4 1 f6 a1 a2 a3 a4 a5 a6 a7 a8 a9 a10 n ((1 : Int32) <<< (nI (F + j) &&& 31)) (nI i)) (fun i _ => 1 ≤ i) 32 1 () (by omega) (by omega)
      (fun n _ _ => pk_le 32 32 (fun _ => H) (fun z => absurd z (by omega)))
      (fun n i _ hi h1 hw => pk_le 32 i (fun z => absurd z (by omega)) (fun _ => br_t (ps_t_reg i hi h1) ⟨pk_in j 32 (by omega), pk_in i 32 hi, nm_e (br_t rfl (nm_r (nI_1 i) (hw () (by omega))))⟩))
  obtain ⟨n, hn⟩ := L
  have k1 : ¬ (((a10 (0 : Int32).toNatClampNeg).toUInt64 >>> ((a3 (nI j).toNatClampNeg).toInt64.toUInt64 &&& Int64.toUInt64 63)).toInt64 &&& 1) = 0 := by
    rw [c1, ps_c0, q10, r3]
    decide
  have k2 : a4 (nI j).toNatClampNeg - a8 (0 : Int32).toNatClampNeg = nI j := by
    rw [c1, ps_c0, r4, q8, pk_sub (by omega), show F + j - F = j by omega]
  have k3 : ¬ a7 (0 : Int32).toNatClampNeg ≤ nI j := by
    rw [ps_c0, q7]
    exact nI_ge hj (by omega)
  have k4 : 8 * a5 (0 : Int32).toNatClampNeg + a6 (0 : Int32).toNatClampNeg + nI j = nI (F + j) := by
    rw [ps_c0, q5, q6, ps_80, nI_add]
  have k5 : a1 (nI (F + j)).toNatClampNeg = nI j := by
    rw [c2, r1]
  have k6 : (0 : Int32) ||| ((1 : Int32) <<< (nI (F + j) &&& 31)) = (1 : Int32) <<< (nI (F + j) &&& 31) := by simp
  unfold wpX_walk
  dsimp only
  exact ⟨n + 1, br_f (by decide) (br_f (by decide) ⟨pk_in 0 32 (by omega), pk_in j 32 (by omega), br_f k1 ⟨pk_in j 32 (by omega), pk_in 0 32 (by omega), nm_r k2 (br_f (by decide) (br_f (nI_pos (by omega)) ⟨pk_in 0 32 (by omega), br_f k3 ⟨pk_in 0 32 (by omega), pk_in 0 32 (by omega), nm_r k4 ⟨pk_in (F + j) 32 (by omega), br_t k5 (nm_r k6 (nm_r (nI_1 0) hn))⟩⟩⟩))⟩⟩)⟩
theorem ps_write {post : Int32 → St2 → Prop} {F C : Nat} (h : F + C ≤ 8) (r : ps_R F C a1 a3 a4) (q : ps_Q F C a5 a6 a7 a8 a10) (v x : Int32)
    (H1 : ∀ j, v = nI (F + j) → j < C → post 1 (1, f1, ps_w F C, f3, nI (2 ^ C - 1), 1, f6, a1, upd a2 j x, a3, a4, a5, a6, a7, a8, a9, a10))
    (H0 : ¬ ps_i F C v → post 0 (1, f1, ps_w F C, f3, nI (2 ^ C - 1), 1, f6, a1, a2, a3, a4, a5, a6, a7, a8, a9, a10)) :
    wpX_write post (1, f1, ps_w F C, f3, nI (2 ^ C - 1), 1, f6, a1, a2, a3, a4, a5, a6, a7, a8, a9, a10) 0 v x := by
  unfold wpX_write
  dsimp only
  refine ps_isMapped h v (fun g => br_f (by decide) ?_) (fun g => br_t rfl (H0 g))
  obtain ⟨j, rfl, hj⟩ := g
  have hp := H1 j rfl hj
  have c1 : (nI j).toNatClampNeg = j := nI_clamp (by omega)
  have c2 : (nI (F + j)).toNatClampNeg = F + j := nI_clamp (by omega)
  refine nm_r (ps_80 _) ⟨pk_in (F + j) 32 (by omega), nm_r (show a1 (nI (F + j)).toNatClampNeg = nI j by rw [c2, (r j hj).1]) ?_⟩
  refine ps_bring (by omega) hj (ps_walk h hj r q ?_)
  exact br_t rfl ⟨pk_in j 32 (by omega), nm_r (show upd a2 (nI j).toNatClampNeg x = upd a2 j x by rw [c1]) hp⟩
theorem ps_write0 {post : Int32 → St2 → Prop} (v x : Int32)
    (H0 : post 0 (1, f1, 0, f3, f4, f5, f6, a1, a2, a3, a4, a5, a6, a7, a8, a9, a10)) :
    wpX_write post (1, f1, 0, f3, f4, f5, f6, a1, a2, a3, a4, a5, a6, a7, a8, a9, a10) 0 v x := by
  unfold wpX_write
  dsimp only
  exact ps_isMapped (F := 0) (C := 0) (by omega) v (fun g => absurd g (fun ⟨j, _, z⟩ => absurd z (by omega))) (fun g => br_t rfl H0)
theorem ps_read {post : Int32 → St2 → Prop} {F C : Nat} (h : F + C ≤ 8) (r : ps_R F C a1 a3 a4) (v : Int32)
    (H1 : ∀ j, v = nI (F + j) → j < C → post (a2 j) (1, f1, ps_w F C, f3, nI (2 ^ C - 1), f5, f6, a1, a2, a3, a4, a5, a6, a7, a8, a9, a10))
    (H0 : ¬ ps_i F C v → post 0 (1, f1, ps_w F C, f3, nI (2 ^ C - 1), f5, f6, a1, a2, a3, a4, a5, a6, a7, a8, a9, a10)) :
    wpX_read post (1, f1, ps_w F C, f3, nI (2 ^ C - 1), f5, f6, a1, a2, a3, a4, a5, a6, a7, a8, a9, a10) 0 v := by
  unfold wpX_read
  dsimp only
  refine ps_isMapped h v (fun g => br_f (by decide) ?_) (fun g => br_t rfl (H0 g))
  obtain ⟨j, rfl, hj⟩ := g
  have hp := H1 j rfl hj
  have c1 : (nI j).toNatClampNeg = j := nI_clamp (by omega)
  have c2 : (nI (F + j)).toNatClampNeg = F + j := nI_clamp (by omega)
  rw [ps_80]
  refine ⟨pk_in (F + j) 32 (by omega), nm_r (show a1 (nI (F + j)).toNatClampNeg = nI j by rw [c2, (r j hj).1]) ?_⟩
  refine ps_bring (by omega) hj ⟨pk_in j 32 (by omega), ?_⟩
  rw [c1]
  exact hp
theorem ps_read0 {post : Int32 → St2 → Prop} (v : Int32)
    (H0 : post 0 (1, f1, 0, f3, f4, f5, f6, a1, a2, a3, a4, a5, a6, a7, a8, a9, a10)) :
    wpX_read post (1, f1, 0, f3, f4, f5, f6, a1, a2, a3, a4, a5, a6, a7, a8, a9, a10) 0 v := by
  unfold wpX_read
  dsimp only
  exact ps_isMapped (F := 0) (C := 0) (by omega) v (fun g => absurd g (fun ⟨j, _, z⟩ => absurd z (by omega))) (fun g => br_t rfl H0)
end
end
section
theorem ps_mapped0 {post : Int32 → Prop} {f1 f3 f4 f5 : Int32} {f6 : Int64} {a1 a2 a3 a4 a5 a6 a7 a8 a9 : Nat → Int32} {a10 : Nat → Int64} (p : Int32) (H : post 0) :
    wpX_mapped post (1, f1, 0, f3, f4, f5, f6, a1, a2, a3, a4, a5, a6, a7, a8, a9, a10) p :=
  ps_mapped (F := 0) (C := 0) (by omega) p (fun _ => H) (fun _ => H)
/-- the law's 'good', as a nest of branches -/
theorem ps_nest {A B : Prop} (p f c : Int32) (h0 : ¬ (p = 0 ∧ ps_g f c) → A) (h1 : p = 0 ∧ ps_g f c → B) :
    (p = 0 → ((c < 1 → A) ∧ (¬ c < 1 → ((8 < c → A) ∧ (¬ 8 < c → ((f < 0 → A) ∧ (¬ f < 0 → ((7 < f → A) ∧ (¬ 7 < f → (((8 - c) < f → A) ∧ (¬ (8 - c) < f → B))))))))))) ∧ (¬ p = 0 → A) := by
  by_cases g : p = 0 ∧ ps_g f c
  · have hB := h1 g
    obtain ⟨rfl, F, C, rfl, rfl, h1, h2⟩ := g
    have e : (8 : Int32) - nI C = nI (8 - C) := pk_sub (a := 8) (by omega)
    rw [e]
    exact br_t rfl (br_f (nI_nlt (b := 1) h1 (by omega)) (br_f (nI_nlt (a := 8) (by omega) (by omega)) (br_f (nI_pos (by omega)) (br_f (nI_nlt (a := 7) (by omega) (by omega)) (br_f (nI_nlt (by omega) (by omega)) hB)))))
  · have hA := h0 g
    exact br_c (fun e => br_c (fun _ => hA) (fun g1 => br_c (fun _ => hA) (fun g2 => br_c (fun _ => hA) (fun g3 => br_c (fun _ => hA) (fun g4 => br_c (fun _ => hA) (fun g5 => absurd ⟨e, ps_mk2 g1 g2 g3 g4 g5⟩ g)))))) (fun _ => hA)
section
variable {post : Int32 → St0 → Prop} {mc ms kc ks : Nat}
theorem ps_148 {x4 x8 x9 x11 z : Int32} (h0 : z = 0 → x11 = 0) (h1 : ¬ z = 0 → x11 = x4) (H : post 1 ()) : wL_lawOf_148 post mc ms x4 (-1) 0 x8 x9 z x11 x8 x9 z kc ks := by
  unfold wL_lawOf_148
  exact br_t rfl (br_t rfl (br_t rfl (br_t rfl (br_t rfl (br_c (fun e => br_t (h0 e) H) (fun e => br_t (h1 e) H))))))
theorem ps_118 {F C : Nat} (h : F + C ≤ 8) {v x put got m : Int32} (h1 : ps_i F C v → put = 1 ∧ got = x) (h0 : ¬ ps_i F C v → put = 0 ∧ got = 0) (H : post 1 ()) :
    wL_lawOf_118 post mc ms v x (-1) 0 m (ps_w F C) put got m (ps_w F C) kc ks := by
  unfold wL_lawOf_118
  by_cases g : ps_i F C v
  · obtain ⟨rfl, rfl⟩ := h1 g
    obtain ⟨j, rfl, hj⟩ := g
    exact br_f (nI_pos (by omega)) (br_f (nI_nlt (a := 7) (by omega) (by omega)) (br_t (ps_t_l1 F (by omega) C (by omega) h j hj) (ps_148 (fun z => absurd z (by decide)) (fun _ => rfl) H)))
  · obtain ⟨rfl, rfl⟩ := h0 g
    have K : wL_lawOf_147 post mc ms x (-1) 0 m (ps_w F C) 0 0 m (ps_w F C) kc ks := by
      unfold wL_lawOf_147
      exact ps_148 (fun _ => rfl) (fun z => absurd rfl z) H
    refine br_c (fun _ => K) (fun g1 => br_c (fun _ => K) (fun g2 => ?_))
    obtain ⟨w, _, hw, rfl⟩ := ps_nat (a := 0) (b := 7) (by omega) (by omega) g1 g2
    exact br_f (ps_t_l0 F (by omega) C (by omega) h w (by omega) (fun z => g ⟨w - F, by rw [show F + (w - F) = w by omega], by omega⟩)) K
theorem ps_100 {F C : Nat} (h : F + C ≤ 8) {v x put got : Int32} (h1 : ps_i F C v → put = 1 ∧ got = x) (h0 : ¬ ps_i F C v → put = 0 ∧ got = 0) (H : post 1 ()) :
    wL_lawOf_100 post mc ms (nI F) (nI C) v x (-1) 0 1 (ps_w F C) put got 1 kc ks := by
  unfold wL_lawOf_100
  rw [ps_t_due F (by omega) C (by omega)]
  exact br_f (by decide) (ps_118 h h1 h0 H)
theorem ps_99 {f c v x : Int32} (H : post 1 ()) : wL_lawOf_99 post mc ms f c v x (-1) 0 0 0 0 0 kc ks := by
  unfold wL_lawOf_99 wL_lawOf_100
  exact br_t rfl (ps_118 (F := 0) (C := 0) (by omega) (fun g => absurd g (fun ⟨j, _, z⟩ => absurd z (by omega))) (fun _ => ⟨rfl, rfl⟩) H)
theorem ps_lawOf (p f c v x : Int32) (H : post 1 ()) : wpL_lawOf post 112 1776 () p f c v x := by
  unfold wpL_lawOf
  refine ⟨by omega, by omega, 10, 320, by omega, by omega, ?_⟩
  refine ps_init (by omega) (by omega) (fun a1 a2 a3 a4 a5 a6 a7 a8 a9 a10 => ?_)
  dsimp only
  refine ps_fork p ?_
  dsimp only
  refine ps_spawn ?_
  dsimp only
  refine ps_map (fun g => ?_) (fun F C e0 e1 e2 h1 h2 g1 b1 b2 b3 b4 b5 b6 b7 b8 b9 b10 r q => ?_)
  · dsimp only
    refine ps_mapped0 p (ps_write0 v x ?_)
    dsimp only
    refine ps_read0 v ?_
    exact ps_nest p f c (fun _ => ps_99 H) (fun z => absurd z g)
  · subst e0 e1 e2
    have hg : (0 : Int32) = 0 ∧ ps_g (nI F) (nI C) := ⟨rfl, F, C, rfl, rfl, h1, h2⟩
    dsimp only
    refine ps_mapped h2 0 (fun _ => ?_) (fun e => absurd rfl e)
    refine ps_write h2 r q v x (fun j ej hj => ?_) (fun gi => ?_)
    · dsimp only
      refine ps_read h2 r v (fun j' ej' hj' => ?_) (fun gi => absurd ⟨j, ej, hj⟩ gi)
      have e : j' = j := by
        have t : nI (F + j') = nI (F + j) := by rw [← ej, ← ej']
        have t' := (nI_eq (by omega) (by omega)).mp t
        omega
      subst e
      rw [pk_us]
      exact ps_nest 0 (nI F) (nI C) (fun z => absurd hg z) (fun _ => ps_100 h2 (fun _ => ⟨rfl, rfl⟩) (fun z => absurd ⟨j', ej, hj⟩ z) H)
    · dsimp only
      refine ps_read h2 r v (fun j' ej' hj' => absurd ⟨j', ej', hj'⟩ gi) (fun _ => ?_)
      exact ps_nest 0 (nI F) (nI C) (fun z => absurd hg z) (fun _ => ps_100 h2 (fun z => absurd z gi) (fun _ => ⟨rfl, rfl⟩) H)
end
theorem ps_cell {post : Int32 → Prop} {L : Nat} {xs : Nat → Int32} (hL : L ≤ 5) (k : Nat) (hk : k < 5) (H : ∀ r, post r) : wpL_cellAt post L xs () (nI k) := by
  unfold wpL_cellAt
  exact pk_le L k (fun _ => H _) (fun z => ⟨pk_in k L z, H _⟩)
theorem i_vc (xs : Nat → Int32) (L : Nat) (hL : L ≤ 5) : wpL_law (fun r => r = 1) L xs := by
  unfold wpL_law
  refine ps_cell hL 0 (by omega) (fun p => ?_)
  refine ps_cell hL 1 (by omega) (fun f => ?_)
  refine ps_cell hL 2 (by omega) (fun c => ?_)
  refine ps_cell hL 3 (by omega) (fun v => ?_)
  refine ps_cell hL 4 (by omega) (fun x => ?_)
  exact ⟨112, 1776, by omega, by omega, ps_lawOf p f c v x rfl⟩
end
