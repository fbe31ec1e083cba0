section
theorem pk_us {f : Nat → Int32} {k : Nat} {x : Int32} : upd f k x k = x := if_pos rfl
theorem pk_un {f : Nat → Int32} {k j : Nat} {x : Int32} (h : j ≠ k) : upd f k x j = f j := if_neg h
theorem pk_sub {a b : Nat} (h : b ≤ a) : nI a - nI b = nI (a - b) := by
  obtain ⟨c, rfl⟩ : ∃ c, a = c + b := ⟨a - b, by omega⟩
  rw [← nI_add, Int32.add_sub_cancel, Nat.add_sub_cancel]
theorem pk_le {x y : Int32} {A B : Prop} (a b : Nat) (f : a ≤ b → A) (g : b < a → B) (hx : x = nI a := by rfl) (hy : y = nI b := by rfl) (ha : a < 2 ^ 31 := by omega) (hb : b < 2 ^ 31 := by omega) : (x ≤ y → A) ∧ (¬ x ≤ y → B) := by
  subst hx hy
  rw [nI_leI ha hb]
  exact ⟨f, fun z => g (by omega)⟩
theorem pk_lt {x y : Int32} {A B : Prop} (a b : Nat) (f : a < b → A) (g : b ≤ a → B) (hx : x = nI a := by rfl) (hy : y = nI b := by rfl) (ha : a < 2 ^ 31 := by omega) (hb : b < 2 ^ 31 := by omega) : (x < y → A) ∧ (¬ x < y → B) := by
  subst hx hy
  rw [nI_ltI ha hb]
  exact ⟨f, fun z => g (by omega)⟩
theorem pk_tn {n : Nat} (h : n < 2 ^ 32) : (nI n).toBitVec.toNat = n := Nat.mod_eq_of_lt h
theorem pk_char (x : Int32) : (x.toUInt32 % 65536).toInt32 = nI (x.toBitVec.toNat % 65536) := by
  apply Int32.toBitVec_inj.mp
  apply BitVec.eq_of_toNat_eq
  rw [pk_tn (by omega)]
  show (x.toUInt32 % 65536).toNat = _
  rw [UInt32.toNat_mod]
  rfl
end
section
/-- the code point order's key of a char: what both 'fix' and 'key' compute -/
def ko_c (w : Nat) : Nat := if w < 55296 then w else if w < 57344 then w + 8192 else w - 2048
theorem ko_lo {w : Nat} (h : w < 55296) : ko_c w = w := if_pos h
theorem ko_mid {w : Nat} (h : 55296 ≤ w) (h2 : w < 57344) : ko_c w = w + 8192 := by
  unfold ko_c
  rw [if_neg (by omega), if_pos h2]
theorem ko_hi {w : Nat} (h : 57344 ≤ w) : ko_c w = w - 2048 := by
  unfold ko_c
  rw [if_neg (by omega), if_neg (by omega)]
theorem ko_lt {w : Nat} (h : w < 65536) : ko_c w < 65536 := by
  by_cases h1 : w < 55296
  · rw [ko_lo h1]; exact h
  · by_cases h2 : w < 57344
    · rw [ko_mid (by omega) h2]; omega
    · rw [ko_hi (by omega)]; omega
/-- the key is one to one on chars: keys below 55296, then 55296 .. 63487, then 63488 .. 65535 -/
theorem ko_inj {x y : Nat} (hx : x < 65536) (hy : y < 65536) (h : ko_c x = ko_c y) : x = y := by
  by_cases x1 : x < 55296
  · rw [ko_lo x1] at h
    by_cases y1 : y < 55296
    · rw [ko_lo y1] at h; exact h
    · by_cases y2 : y < 57344
      · rw [ko_mid (by omega) y2] at h; omega
      · rw [ko_hi (by omega)] at h; omega
  · by_cases x2 : x < 57344
    · rw [ko_mid (by omega) x2] at h
      by_cases y1 : y < 55296
      · rw [ko_lo y1] at h; omega
      · by_cases y2 : y < 57344
        · rw [ko_mid (by omega) y2] at h; omega
        · rw [ko_hi (by omega)] at h; omega
    · rw [ko_hi (by omega)] at h
      by_cases y1 : y < 55296
      · rw [ko_lo y1] at h; omega
      · by_cases y2 : y < 57344
        · rw [ko_mid (by omega) y2] at h; omega
        · rw [ko_hi (by omega)] at h; omega
theorem ko_sub {w : Nat} (h : 2048 ≤ w) : nI w - 2048 = nI (w - 2048) := pk_sub h
theorem ko_add (w : Nat) : nI w + 8192 = nI (w + 8192) := nI_add w 8192
/-- what X's fix gives -/
theorem ko_fix {post : Int32 → Prop} {f g : Int32} {a b : Nat → Int32} {w : Nat} (hw : w < 65536) (h : post (nI (ko_c w))) : wpX_fix post (f, g, a, b) (nI w) := by
  unfold wpX_fix
  dsimp only
  refine pk_le 55296 w (fun h1 => pk_lt 57343 w (fun h2 => ?_) (fun h2 => ?_)) (fun h1 => ?_)
  · rw [ko_sub (by omega), ← ko_hi (by omega)]; exact h
  · rw [ko_add, ← ko_mid h1 (by omega)]; exact h
  · rw [ko_lo h1] at h; exact h
/-- what Y's key gives -/
theorem ko_key {post : Int32 → Prop} {w : Nat} (hw : w < 65536) (h : post (nI (ko_c w))) : wpY_key post (nI w) := by
  unfold wpY_key
  refine pk_le 55296 w (fun h1 => pk_le 57344 w (fun h2 => ?_) (fun h2 => ?_)) (fun h1 => ?_)
  · rw [ko_sub (by omega), ← ko_hi h2]; exact h
  · rw [ko_add, ← ko_mid h1 h2]; exact h
  · rw [ko_lo h1] at h; exact h
/-- an array of chars -/
def ko_C (a : Nat → Int32) : Prop := ∀ j : Nat, ∃ w : Nat, w < 65536 ∧ a j = nI w
theorem ko_C0 : ko_C (fun _ => 0) := fun _ => ⟨0, by omega, rfl⟩
theorem ko_nar (z : Int32) : vp_nar .char (z.toUInt32 % 65536).toInt32 = nI (z.toBitVec.toNat % 65536) := (Value.int.inj (lw_u16_n z)).trans (pk_char z)
theorem ko_Cu {a : Nat → Int32} (h : ko_C a) (k : Nat) (z : Int32) : ko_C (upd a k (vp_nar .char ((z.toUInt32 % 65536).toInt32))) := by
  intro j
  by_cases e : j = k
  · subst e
    exact ⟨z.toBitVec.toNat % 65536, Nat.mod_lt _ (by decide), by rw [pk_us, ko_nar]⟩
  · obtain ⟨w, hw, ew⟩ := h j
    exact ⟨w, hw, by rw [pk_un e]; exact ew⟩
/-- the end of both compares: the lengths alone -/
theorem ko_tail (f g : Int32) : ∃ r : Int32, ∀ post : Int32 → Prop, post r → ((g ≤ f → ((f ≤ g → post 0) ∧ (¬ f ≤ g → post 1))) ∧ (¬ g ≤ f → post (-1))) := by
  by_cases h : g ≤ f
  · by_cases h2 : f ≤ g
    · exact ⟨0, fun _ hp => br_t h (br_t h2 hp)⟩
    · exact ⟨1, fun _ hp => br_t h (br_f h2 hp)⟩
  · exact ⟨-1, fun _ hp => br_f h hp⟩
/-- the two loops, d turns from the end: one answer for both -/
theorem ko_scan {p q m : Nat} {a b : Nat → Int32} (hp : p ≤ 4) (hq : q ≤ 4) (hA : ko_C a) (hB : ko_C b) (h1 : m ≤ p) (h2 : m ≤ q) (h3 : m = p ∨ m = q) : ∀ d j : Nat, j + d = m → ∃ r : Int32, (∀ post : Int32 → Prop, post r → wX_compare_25 post (nI m) (nI p) (nI q) a b (d + 1) (nI j)) ∧ (∀ post : Int32 → Prop, post r → wY_compare_2 post (nI p) (nI q) a b (d + 1) (nI j)) := by
  intro d
  induction d with
  | zero =>
    intro j hj
    obtain ⟨r, hr⟩ := ko_tail (nI p) (nI q)
    refine ⟨r, fun post hpo => ?_, fun post hpo => ?_⟩
    · exact br_t (nI_le (by omega) (by omega)) (hr post hpo)
    · by_cases c : p ≤ j
      · exact br_t (nI_le c (by omega)) (hr post hpo)
      · exact br_f (nI_ge (by omega) (by omega)) (br_t (nI_le (by omega) (by omega)) (hr post hpo))
  | succ d ih =>
    intro j hj
    have hx : ¬ nI m ≤ nI j := nI_ge (by omega) (by omega)
    have hyp : ¬ nI p ≤ nI j := nI_ge (by omega) (by omega)
    have hyq : ¬ nI q ≤ nI j := nI_ge (by omega) (by omega)
    have hi : vp_in (nI j) 4 := vp_in_nI (by omega) (by omega)
    obtain ⟨w, hw, ew⟩ := hA (nI j).toNatClampNeg
    obtain ⟨z, hz, ez⟩ := hB (nI j).toNatClampNeg
    by_cases e : w = z
    · obtain ⟨r, hX, hY⟩ := ih (j + 1) (by omega)
      have e1 : nI w = nI z := congrArg nI e
      have e2 : nI (ko_c w) = nI (ko_c z) := congrArg (fun t => nI (ko_c t)) e
      refine ⟨r, fun post hpo => br_f hx ⟨hi, nm_r ew ⟨hi, nm_r ez (br_t e1 (nm_r (nI_1 j) (hX post hpo)))⟩⟩, fun post hpo => br_f hyp (br_f hyq ⟨hi, ?_⟩)⟩
      rw [ew]
      refine ko_key hw ⟨hi, ?_⟩
      rw [ez]
      exact ko_key hz (br_t e2 (nm_r (nI_1 j) (hY post hpo)))
    · have e1 : ¬ nI w = nI z := fun t => e ((nI_eq (by omega) (by omega)).mp t)
      have lw := ko_lt hw
      have lz := ko_lt hz
      have e2 : ¬ nI (ko_c w) = nI (ko_c z) := fun t => e (ko_inj hw hz ((nI_eq (by omega) (by omega)).mp t))
      by_cases c : nI (ko_c z) ≤ nI (ko_c w)
      · refine ⟨1, fun post hpo => br_f hx ⟨hi, nm_r ew ⟨hi, nm_r ez (br_f e1 (ko_fix hw (ko_fix hz (br_t c hpo))))⟩⟩, fun post hpo => br_f hyp (br_f hyq ⟨hi, ?_⟩)⟩
        rw [ew]
        refine ko_key hw ⟨hi, ?_⟩
        rw [ez]
        exact ko_key hz (br_f e2 (br_t c hpo))
      · refine ⟨-1, fun post hpo => br_f hx ⟨hi, nm_r ew ⟨hi, nm_r ez (br_f e1 (ko_fix hw (ko_fix hz (br_f c hpo))))⟩⟩, fun post hpo => br_f hyp (br_f hyq ⟨hi, ?_⟩)⟩
        rw [ew]
        refine ko_key hw ⟨hi, ?_⟩
        rw [ez]
        exact ko_key hz (br_f e2 (br_f c hpo))
end
section
/-- the two objects hold the same: lengths at most 4, the same arrays of chars -/
def i_Rel (_ : Nat) (u : SX) (v : SY) : Prop := ∃ (p q : Nat) (a b : Nat → Int32), p ≤ 4 ∧ q ≤ 4 ∧ ko_C a ∧ ko_C b ∧ u = (nI p, nI q, a, b) ∧ v = (nI p, nI q, a, b)
theorem i_up {k : Nat} {u : SX} {v : SY} (h : i_Rel k u v) : i_Rel (k + 2) u v := h
theorem i_vc0 : wpX_init (fun u => wpY_init (fun v => i_Rel 0 u v)) := ⟨0, 0, fun _ => 0, fun _ => 0, by omega, by omega, ko_C0, ko_C0, rfl, rfl⟩
theorem i_vc_putA {k : Nat} {u : SX} {v : SY} (I : i_Rel k u v) (hk : k + 2 ≤ 1024) (v1 : Int32) : wpX_putA (fun r u' => wpY_putA (fun r' v' => r' = r ∧ i_Rel (k + 2) u' v') v v1) u v1 := by
  obtain ⟨p, q, a, b, hp, hq, hA, hB, rfl, rfl⟩ := I
  by_cases c : p < 4
  · have h : nI p < 4 := nI_lt (b := 4) c (by omega)
    have hi : vp_in (nI p) 4 := vp_in_nI c (by omega)
    refine br_t h ⟨hi, nm_e (nm_r (nI_1 p) ?_)⟩
    exact br_t h (nm_r (nI_1 p) ⟨hi, nm_e ⟨rfl, p + 1, q, _, b, by omega, hq, ko_Cu hA _ v1, hB, rfl, rfl⟩⟩)
  · have h : ¬ nI p < 4 := nI_nlt (b := 4) (by omega) (by omega)
    exact br_f h (br_f h ⟨rfl, p, q, a, b, hp, hq, hA, hB, rfl, rfl⟩)
theorem i_vc_putB {k : Nat} {u : SX} {v : SY} (I : i_Rel k u v) (hk : k + 2 ≤ 1024) (v1 : Int32) : wpX_putB (fun r u' => wpY_putB (fun r' v' => r' = r ∧ i_Rel (k + 2) u' v') v v1) u v1 := by
  obtain ⟨p, q, a, b, hp, hq, hA, hB, rfl, rfl⟩ := I
  by_cases c : q < 4
  · have h : nI q < 4 := nI_lt (b := 4) c (by omega)
    have hi : vp_in (nI q) 4 := vp_in_nI c (by omega)
    refine br_t h ⟨hi, nm_e (nm_r (nI_1 q) ?_)⟩
    exact br_t h (nm_r (nI_1 q) ⟨hi, nm_e ⟨rfl, p, q + 1, a, _, hp, by omega, hA, ko_Cu hB _ v1, rfl, rfl⟩⟩)
  · have h : ¬ nI q < 4 := nI_nlt (b := 4) (by omega) (by omega)
    exact br_f h (br_f h ⟨rfl, p, q, a, b, hp, hq, hA, hB, rfl, rfl⟩)
theorem i_vc_compare {k : Nat} {u : SX} {v : SY} (I : i_Rel k u v) (hk : k + 2 ≤ 1024) : wpX_compare (fun r => wpY_compare (fun r' => r' = r ∧ i_Rel (k + 2) u v) v) u := by
  have J : i_Rel (k + 2) u v := I
  obtain ⟨p, q, a, b, hp, hq, hA, hB, rfl, rfl⟩ := I
  by_cases c : q ≤ p
  · obtain ⟨r, hX, hY⟩ := ko_scan (m := q) hp hq hA hB c (Nat.le_refl q) (Or.inr rfl) q 0 (by omega)
    rw [nI_0] at hX hY
    exact br_t (nI_le c (by omega)) ⟨_, hX _ ⟨_, hY _ ⟨rfl, J⟩⟩⟩
  · obtain ⟨r, hX, hY⟩ := ko_scan (m := p) hp hq hA hB (Nat.le_refl p) (by omega) (Or.inl rfl) p 0 (by omega)
    rw [nI_0] at hX hY
    exact br_f (nI_ge (by omega) (by omega)) ⟨_, hX _ ⟨_, hY _ ⟨rfl, J⟩⟩⟩
theorem i_vc_lengths {k : Nat} {u : SX} {v : SY} (I : i_Rel k u v) (hk : k + 2 ≤ 1024) : wpX_lengths (fun r => wpY_lengths (fun r' => r' = r ∧ i_Rel (k + 2) u v) v) u := by
  have J : i_Rel (k + 2) u v := I
  obtain ⟨p, q, a, b, hp, hq, hA, hB, rfl, rfl⟩ := I
  exact ⟨rfl, J⟩
end
