section
theorem pk_us {f : Nat → Int32} {k : Nat} {x : Int32} : upd f k x k = x := if_pos rfl
theorem pk_un {f : Nat → Int32} {k j : Nat} {x : Int32} (h : j ≠ k) : upd f k x j = f j := if_neg h
theorem pk_tn {n : Nat} (h : n < 2 ^ 32) : (nI n).toBitVec.toNat = n := Nat.mod_eq_of_lt h
theorem pk_and (x : Int32) {m : Int32} (k : Nat) (hm : m.toBitVec.toNat = 2 ^ k - 1) : x &&& m = nI (x.toBitVec.toNat % 2 ^ k) := by
  apply Int32.toBitVec_inj.mp
  apply BitVec.eq_of_toNat_eq
  rw [Int32.toBitVec_and, BitVec.toNat_and, hm, Nat.and_two_pow_sub_one_eq_mod]
  show _ = (BitVec.ofNat 32 _).toNat
  rw [BitVec.toNat_ofNat]
  exact (Nat.mod_eq_of_lt (Nat.lt_of_le_of_lt (Nat.mod_le _ _) x.toBitVec.isLt)).symm
theorem pk_andN {n : Nat} (h : n < 2 ^ 32) {m : Int32} (k : Nat) (hm : m.toBitVec.toNat = 2 ^ k - 1) : nI n &&& m = nI (n % 2 ^ k) := by
  rw [pk_and _ k hm, pk_tn h]
theorem pk_ns (z : Int32) : narrow .short (.int z.toInt16.toInt32) = .int z.toInt16.toInt32 := congrArg Value.int (by simp)
theorem pk_vs (z : Int32) : vp_nar .short z.toInt16.toInt32 = z.toInt16.toInt32 := by rw [vp_nar_short]; simp
end
section
/-- every cell of the line is a short -/
def cd_S (a : Nat → Int32) : Prop := ∀ j, narrow .short (.int (a j)) = .int (a j)
theorem cd_S0 : cd_S (fun _ => 0) := fun _ => rfl
theorem cd_Su {a : Nat → Int32} (h : cd_S a) (i : Nat) (z : Int32) : cd_S (upd a i z.toInt16.toInt32) := by
  intro j
  by_cases e : j = i
  · rw [e, pk_us]; exact pk_ns z
  · rw [pk_un e]; exact h j
theorem cd_8 : nI 8 = 8 := by decide +kernel
theorem cd_m {p : Nat} (hp : p < 1024) : nI p &&& 7 = nI (p % 8) := pk_andN (by omega) 3 (by decide)
/-- the component's tail of process: the store and the wrapping step -/
theorem cd_X47 {post : Int32 → SX → Prop} {d z g : Int32} {a : Nat → Int32} {p : Nat} (hn : narrow .short (.int d) = .int d)
    (h : post d (nI ((p + 1) % 8), g, upd a (p % 8) z.toInt16.toInt32)) : wX_process_47 post d z (nI (p % 8)) g a := by
  unfold wX_process_47
  rw [nI_clamp (by omega), pk_vs]
  refine And.intro (vp_in_nI (by omega) (by omega)) (nm_e (nm_r (e' := nI (p % 8 + 1)) (nI_1 _) ?_))
  by_cases h7 : p % 8 + 1 < 8
  · have e : (p + 1) % 8 = p % 8 + 1 := by omega
    rw [e] at h
    refine br_t ?_ ⟨hn, h⟩
    rw [← cd_8]; exact nI_lt h7 (by omega)
  · have e : (p + 1) % 8 = 0 := by omega
    rw [e, nI_0] at h
    refine br_f ?_ ⟨hn, h⟩
    rw [← cd_8]; exact nI_nlt (by omega) (by omega)
/-- the reference's tail of process: the store under the mask, the counting step -/
theorem cd_Y47 {post : Int32 → SY → Prop} {d z g : Int32} {a : Nat → Int32} {p : Nat} (hp : p < 1024) (hn : narrow .short (.int d) = .int d)
    (h : post d (nI (p + 1), g, upd a (p % 8) z.toInt16.toInt32)) : wY_process_47 post d z (nI p) g a := by
  unfold wY_process_47
  rw [cd_m hp, nI_clamp (by omega), pk_vs]
  exact nm_r (nI_1 _) (And.intro (vp_in_nI (by omega) (by omega)) (nm_e ⟨hn, h⟩))
/-- process: one stored value z for both sides -/
theorem cd_proc {p : Nat} {g : Int32} {a : Nat → Int32} (w : Int32) (hp : p < 1024) (hs : cd_S a) :
    ∃ z : Int32, (∀ post : Int32 → SX → Prop, post (a (p % 8)) (nI ((p + 1) % 8), g, upd a (p % 8) z.toInt16.toInt32) → wpX_process post (nI (p % 8), g, a) w) ∧
      (∀ post : Int32 → SY → Prop, post (a (p % 8)) (nI (p + 1), g, upd a (p % 8) z.toInt16.toInt32) → wpY_process post (nI p, g, a) w) := by
  have hn := hs (p % 8)
  have hi : vp_in (nI (p % 8)) 8 := vp_in_nI (by omega) (by omega)
  unfold wpX_process wpY_process
  dsimp only
  rw [cd_m hp, nI_clamp (by omega)]
  by_cases h1 : w + ((a (p % 8) * g) >>> ((15 : Int32) &&& 31)) ≤ 32767
  · by_cases h2 : (-32768) ≤ w + ((a (p % 8) * g) >>> ((15 : Int32) &&& 31))
    · exact ⟨_, fun post h => And.intro hi (nm_e (nm_e (br_t h1 (br_t h2 (cd_X47 hn h))))),
        fun post h => And.intro hi (nm_e (nm_e (br_t h1 (br_t h2 (cd_Y47 hp hn h)))))⟩
    · exact ⟨-32768, fun post h => And.intro hi (nm_e (nm_e (br_t h1 (br_f h2 (cd_X47 hn h))))),
        fun post h => And.intro hi (nm_e (nm_e (br_t h1 (br_f h2 (cd_Y47 hp hn h)))))⟩
  · exact ⟨32767, fun post h => And.intro hi (nm_e (nm_e (br_f h1 (cd_X47 hn h)))),
      fun post h => And.intro hi (nm_e (nm_e (br_f h1 (br_t (by decide) (cd_Y47 hp hn h)))))⟩
/-- flush: both loops, from row j on, end in one line of shorts -/
theorem cd_flush : ∀ (d j : Nat) (a : Nat → Int32), j + d = 8 → cd_S a → ∃ b : Nat → Int32, cd_S b ∧
    (∀ (post : SX → Prop) (f g : Int32), post (f, g, b) → wX_flush_2 post f g (d + 1) (nI j) a) ∧
    (∀ (post : SY → Prop) (f g : Int32), post (f, g, b) → wY_flush_2 post f g (d + 1) (nI j) a) := by
  intro d
  induction d with
  | zero =>
    intro j a hj hs
    have h : (8 : Int32) ≤ nI j := by rw [← cd_8]; exact nI_le (by omega) (by omega)
    exact ⟨a, hs, fun _ _ _ hp => br_t h hp, fun _ _ _ hp => br_t h hp⟩
  | succ d ih =>
    intro j a hj hs
    have h : ¬ (8 : Int32) ≤ nI j := by rw [← cd_8]; exact nI_ge (by omega) (by omega)
    have hi : vp_in (nI j) 8 := vp_in_nI (by omega) (by omega)
    have hc : (nI j).toNatClampNeg = j := nI_clamp (by omega)
    obtain ⟨b, hb, hX, hY⟩ := ih (j + 1) (upd a j (vp_nar .short 0)) (by omega) (cd_Su hs j 0)
    refine ⟨b, hb, fun post f g hp => br_f h ⟨hi, fun y ey x ex => ?_⟩, fun post f g hp => br_f h ⟨hi, fun y ey x ex => ?_⟩⟩
    · rw [ex, ey, hc, nI_1]; exact hX post f g hp
    · rw [ex, ey, hc, nI_1]; exact hY post f g hp
end
section
/-- one counter p of the process calls, one feedback, one line of shorts: the component's index is p mod 8, the reference's is p -/
def i_Rel (k : Nat) (u : SX) (v : SY) : Prop := ∃ (p : Nat) (g : Int32) (a : Nat → Int32), p ≤ k ∧ cd_S a ∧ u = (nI (p % 8), g, a) ∧ v = (nI p, g, a)
theorem i_up {k : Nat} {u : SX} {v : SY} (h : i_Rel k u v) : i_Rel (k + 2) u v := by
  obtain ⟨p, g, a, hp, h⟩ := h
  exact ⟨p, g, a, by omega, h⟩
theorem i_vc0 : wpX_init (fun u => wpY_init (fun v => i_Rel 0 u v)) := by
  unfold wpX_init wpY_init
  exact ⟨0, 16384, fun _ => 0, Nat.le_refl 0, cd_S0, rfl, rfl⟩
theorem i_vc_process {k : Nat} {u : SX} {v : SY} (I : i_Rel k u v) (hk : k + 2 ≤ 1024) (v1 : Int32) : wpX_process (fun r u' => wpY_process (fun r' v' => r' = r ∧ i_Rel (k + 2) u' v') v (lw_i16 v1)) u (lw_i16 v1) := by
  obtain ⟨p, g, a, hp, hs, rfl, rfl⟩ := I
  obtain ⟨z, hX, hY⟩ := cd_proc (p := p) (g := g) (lw_i16 v1) (by omega) hs
  exact hX _ (hY _ ⟨rfl, p + 1, g, upd a (p % 8) z.toInt16.toInt32, by omega, cd_Su hs _ _, rfl, rfl⟩)
theorem i_vc_setFeedback {k : Nat} {u : SX} {v : SY} (I : i_Rel k u v) (hk : k + 2 ≤ 1024) (v1 : Int32) : wpX_setFeedback (fun r u' => wpY_setFeedback (fun r' v' => r' = r ∧ i_Rel (k + 2) u' v') v v1) u v1 := by
  obtain ⟨p, g, a, hp, hs, rfl, rfl⟩ := I
  unfold wpX_setFeedback wpY_setFeedback
  dsimp only
  by_cases h1 : (-32768) ≤ v1
  · by_cases h2 : v1 ≤ 32767
    · exact br_t h1 (br_t h2 (br_t h1 (br_t h2 ⟨rfl, p, v1, a, by omega, hs, rfl, rfl⟩)))
    · exact br_t h1 (br_f h2 (br_t h1 (br_f h2 ⟨rfl, p, 32767, a, by omega, hs, rfl, rfl⟩)))
  · exact br_f h1 (br_f h1 ⟨rfl, p, -32768, a, by omega, hs, rfl, rfl⟩)
theorem i_vc_feedback {k : Nat} {u : SX} {v : SY} (I : i_Rel k u v) (hk : k + 2 ≤ 1024) : wpX_feedback (fun r => wpY_feedback (fun r' => r' = r ∧ i_Rel (k + 2) u v) v) u := by
  have J := i_up I
  obtain ⟨p, g, a, hp, hs, rfl, rfl⟩ := I
  exact And.intro rfl J
theorem i_vc_flush {k : Nat} {u : SX} {v : SY} (I : i_Rel k u v) (hk : k + 2 ≤ 1024) : wpX_flush (fun u' => wpY_flush (fun v' => i_Rel (k + 2) u' v') v) u := by
  obtain ⟨p, g, a, hp, hs, rfl, rfl⟩ := I
  obtain ⟨b, hb, hX, hY⟩ := cd_flush 8 0 a rfl hs
  rw [nI_0] at hX hY
  exact ⟨9, hX _ _ _ ⟨9, hY _ _ _ ⟨p, g, b, by omega, hb, rfl, rfl⟩⟩⟩
end
