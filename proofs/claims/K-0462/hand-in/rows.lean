section
theorem pk_us {f : Nat → Int32} {k : Nat} {x : Int32} : upd f k x k = x := if_pos rfl
theorem pk_un {f : Nat → Int32} {k j : Nat} {x : Int32} (h : j ≠ k) : upd f k x j = f j := if_neg h
theorem pk_sub {a b : Nat} (h : b ≤ a) : nI a - nI b = nI (a - b) := by
  obtain ⟨c, rfl⟩ : ∃ c, a = c + b := ⟨a - b, by omega⟩
  rw [← nI_add, Int32.add_sub_cancel, Nat.add_sub_cancel]
theorem pk_and (x : Int32) {m : Int32} (k : Nat) (hm : m.toBitVec.toNat = 2 ^ k - 1) : x &&& m = nI (x.toBitVec.toNat % 2 ^ k) := by
  apply Int32.toBitVec_inj.mp
  apply BitVec.eq_of_toNat_eq
  rw [Int32.toBitVec_and, BitVec.toNat_and, hm, Nat.and_two_pow_sub_one_eq_mod]
  show _ = (BitVec.ofNat 32 _).toNat
  rw [BitVec.toNat_ofNat]
  exact (Nat.mod_eq_of_lt (Nat.lt_of_le_of_lt (Nat.mod_le _ _) x.toBitVec.isLt)).symm
theorem pk_andE (x : Int32) {m : Int32} (k : Nat) (hm : m.toBitVec.toNat = 2 ^ k - 1) : ∃ j : Nat, j < 2 ^ k ∧ x &&& m = nI j := ⟨_, Nat.mod_lt _ (Nat.two_pow_pos k), pk_and x k hm⟩
theorem pk_ns (z : Int32) : narrow .short (.int z.toInt16.toInt32) = .int z.toInt16.toInt32 := congrArg Value.int (by simp)
theorem pk_fs (r : Int32) : fits .short (.int r.toInt16.toInt32) = true := by
  have ⟨a, b⟩ := lg_i2s_range r
  have h1 : (-32768 : Int32).toInt = -32768 := by decide
  have h2 : (32767 : Int32).toInt = 32767 := by decide
  simp only [fits, Bool.and_eq_true, decide_eq_true_eq, Int32.le_iff_toInt_le, h1, h2]
  omega
/-! numbers -/
theorem cm_8 : nI 8 = 8 := by decide +kernel
theorem cm_7 : nI 7 = 7 := by decide +kernel
theorem cm_4 : nI 4 = 4 := by decide +kernel
theorem cm_cl {a : Nat} (h : a < 8) : (nI a).toNatClampNeg = a := nI_clamp (by omega)
theorem cm_in {a : Nat} (h : a < 8) : vp_in (nI a) 8 := vp_in_nI h (by decide)
theorem cm_in4 {a : Nat} (h : a < 4) : vp_in (nI a) 4 := vp_in_nI h (by decide)
theorem cm_ne1 : ∀ a, a < 8 → ¬ nI a = -1 := by decide +kernel
theorem cm_sh9 : ∀ a, a < 9 → (nI a).toInt16.toInt32 = nI a := by decide +kernel
theorem cm_sh8 {a : Nat} (h : a < 8) : (nI a).toInt16.toInt32 = nI a := cm_sh9 a (by omega)
theorem cm_shm : (-1 : Int32).toInt16.toInt32 = -1 := by decide +kernel
theorem cm_nar {x : Int32} (e : x.toInt16.toInt32 = x) : vp_nar .short x = x := by rw [vp_nar_short]; exact e
theorem cm_narrow {x : Int32} (e : x.toInt16.toInt32 = x) : narrow .short (.int x) = .int x := by
  have h := pk_ns x
  rw [e] at h
  exact h
theorem cm_fits {x : Int32} (e : x.toInt16.toInt32 = x) : fits .short (.int x) = true := by
  have h := pk_fs x
  rw [e] at h
  exact h
theorem cm_mask (k : Int32) : ∃ b : Nat, b < 4 ∧ k &&& 3 = nI b := pk_andE k 2 (by decide)
/-! a walk along the links: from x over the nodes of a list to z -/
def cm_Sg (nx : Nat → Int32) (z : Int32) : Int32 → List Nat → Prop
  | x, [] => x = z
  | x, a :: t => x = nI a ∧ a < 8 ∧ cm_Sg nx z (nx a) t
theorem cm_Sg_nil {nx : Nat → Int32} {z x : Int32} : cm_Sg nx z x [] ↔ x = z := Iff.rfl
theorem cm_Sg_cons {nx : Nat → Int32} {z x : Int32} {a : Nat} {t : List Nat} : cm_Sg nx z x (a :: t) ↔ x = nI a ∧ a < 8 ∧ cm_Sg nx z (nx a) t := Iff.rfl
theorem cm_Sg_app {nx : Nat → Int32} {z : Int32} {q : List Nat} : ∀ (p : List Nat) (x : Int32), cm_Sg nx z x (p ++ q) ↔ ∃ y, cm_Sg nx y x p ∧ cm_Sg nx z y q := by
  intro p
  induction p with
  | nil =>
    intro x
    exact ⟨fun h => ⟨x, rfl, h⟩, fun ⟨y, e, h⟩ => by rw [cm_Sg_nil.mp e]; exact h⟩
  | cons a t ih =>
    intro x
    constructor
    · intro h
      obtain ⟨e, ha, ht⟩ := cm_Sg_cons.mp h
      obtain ⟨y, h1, h2⟩ := (ih _).mp ht
      exact ⟨y, cm_Sg_cons.mpr ⟨e, ha, h1⟩, h2⟩
    · intro ⟨y, h1, h2⟩
      obtain ⟨e, ha, ht⟩ := cm_Sg_cons.mp h1
      exact cm_Sg_cons.mpr ⟨e, ha, (ih _).mpr ⟨y, ht, h2⟩⟩
theorem cm_Sg_fr {nx nx' : Nat → Int32} {z : Int32} : ∀ (l : List Nat) (x : Int32), (∀ a, a ∈ l → nx' a = nx a) → cm_Sg nx z x l → cm_Sg nx' z x l := by
  intro l
  induction l with
  | nil => intro x _ h; exact h
  | cons a t ih =>
    intro x H h
    obtain ⟨e, ha, ht⟩ := cm_Sg_cons.mp h
    refine cm_Sg_cons.mpr ⟨e, ha, ?_⟩
    rw [H a List.mem_cons_self]
    exact ih _ (fun b hb => H b (List.mem_cons_of_mem _ hb)) ht
theorem cm_Sg_lt {nx : Nat → Int32} {z : Int32} : ∀ (l : List Nat) (x : Int32), cm_Sg nx z x l → ∀ a, a ∈ l → a < 8 := by
  intro l
  induction l with
  | nil => intro x _ a ha; exact absurd ha List.not_mem_nil
  | cons b t ih =>
    intro x h a ha
    obtain ⟨_, hb, ht⟩ := cm_Sg_cons.mp h
    rcases List.mem_cons.mp ha with e | h'
    · rw [e]; exact hb
    · exact ih _ ht a h'
theorem cm_Sg_sh {nx : Nat → Int32} {x : Int32} {l : List Nat} (h : cm_Sg nx (-1) x l) : x.toInt16.toInt32 = x := by
  cases l with
  | nil => rw [cm_Sg_nil.mp h]; exact cm_shm
  | cons a t =>
    obtain ⟨e, ha, _⟩ := cm_Sg_cons.mp h
    rw [e]; exact cm_sh8 ha
/-! the stack of spare nodes -/
def cm_Sp (sp : Nat → Int32) : List Nat → Prop
  | [] => True
  | a :: t => sp t.length = nI a ∧ cm_Sp sp t
theorem cm_Sp_cons {sp : Nat → Int32} {a : Nat} {t : List Nat} : cm_Sp sp (a :: t) ↔ sp t.length = nI a ∧ cm_Sp sp t := Iff.rfl
theorem cm_Sp_fr {sp : Nat → Int32} {m : Nat} {x : Int32} : ∀ (l : List Nat), l.length ≤ m → cm_Sp sp l → cm_Sp (upd sp m x) l := by
  intro l
  induction l with
  | nil => intro _ _; exact True.intro
  | cons a t ih =>
    intro hl h
    rw [List.length_cons] at hl
    obtain ⟨e, ht⟩ := cm_Sp_cons.mp h
    refine cm_Sp_cons.mpr ⟨?_, ih (by omega) ht⟩
    rw [pk_un (by omega)]; exact e
/-! different numbers below n are at most n -/
theorem cm_pig : ∀ (n : Nat) (l : List Nat), l.Nodup → (∀ a, a ∈ l → a < n) → l.length ≤ n := by
  intro n
  induction n with
  | zero =>
    intro l _ h
    cases l with
    | nil => exact Nat.le_refl _
    | cons a t => exact absurd (h a List.mem_cons_self) (Nat.not_lt_zero _)
  | succ n ih =>
    intro l hn h
    by_cases m : n ∈ l
    · have h1 : (l.erase n).length ≤ n := by
        refine ih _ (hn.erase n) (fun a ha => ?_)
        have h2 := h a (List.mem_of_mem_erase ha)
        have h3 : a ≠ n := fun e => by rw [e] at ha; exact (List.Nodup.not_mem_erase hn) ha
        omega
      rw [List.length_erase_of_mem m] at h1
      omega
    · have h1 := ih l hn (fun a ha => by
        have h2 := h a ha
        have h3 : a ≠ n := fun e => by rw [e] at ha; exact m ha
        omega)
      omega
end
section
/-! the relation's heart: chains L, free nodes F -/
def cm_G (fr : Int32) (hd nx ks us sp : Nat → Int32) (top : Int32) (L : Nat → List Nat) (F : List Nat) : Prop :=
  (∀ b, b < 4 → cm_Sg nx (-1) (hd b) (L b)) ∧ cm_Sg nx (-1) fr F ∧ (∀ b, b < 4 → (L b).Nodup) ∧ F.Nodup ∧
  (∀ b, b < 4 → ∀ a, a ∈ L b → us a ≠ 0 ∧ ks a &&& 3 = nI b) ∧ (∀ a, a ∈ F → us a = 0) ∧
  (∀ a, a < 8 → us a ≠ 0 → ∀ b, b < 4 → ks a &&& 3 = nI b → a ∈ L b) ∧
  (∀ i j, i < 8 → j < 8 → us i ≠ 0 → us j ≠ 0 → ks i = ks j → i = j) ∧ top = nI F.length ∧ cm_Sp sp F
section
variable {fr top k : Int32} {hd nx ks us sp : Nat → Int32} {L : Nat → List Nat} {F : List Nat} {a b : Nat}
theorem cm_inj {b c : Nat} (hb : b < 4) (hc : c < 4) (e : nI b = nI c) : b = c := (nI_eq (by omega) (by omega)).mp e
theorem cm_cs (G : cm_G fr hd nx ks us sp top L F) (k : Int32) : ∃ b, b < 4 ∧ k &&& 3 = nI b ∧
    (((∀ i, i < 8 → us i ≠ 0 → ¬ ks i = k) ∧ (∀ a, a ∈ L b → ¬ ks a = k)) ∨
     (∃ a p t, a < 8 ∧ us a ≠ 0 ∧ ks a = k ∧ L b = p ++ a :: t ∧ (∀ c, c ∈ p → ¬ ks c = k) ∧ (∀ j, j < 8 → us j ≠ 0 → ks j = k → j = a))) := by
  obtain ⟨g1, g2, g3, g4, g5, g6, g7, g8, g9, g10⟩ := G
  obtain ⟨b, hb, eb⟩ := cm_mask k
  refine ⟨b, hb, eb, ?_⟩
  by_cases H : ∃ a, a < 8 ∧ us a ≠ 0 ∧ ks a = k
  · obtain ⟨a, ha, hu, hk⟩ := H
    refine Or.inr ?_
    have U : ∀ j, j < 8 → us j ≠ 0 → ks j = k → j = a := fun j hj uj kj => g8 j a hj ha uj hu (kj.trans hk.symm)
    have m : a ∈ L b := g7 a ha hu b hb (by rw [hk]; exact eb)
    obtain ⟨p, t, e⟩ := List.append_of_mem m
    refine ⟨a, p, t, ha, hu, hk, e, ?_, U⟩
    intro c hc kc
    have hcL : c ∈ L b := by rw [e]; exact List.mem_append.mpr (Or.inl hc)
    have ec : c = a := U c (cm_Sg_lt _ _ (g1 b hb) c hcL) (g5 b hb c hcL).1 kc
    have nd := g3 b hb
    rw [e] at nd
    exact (List.nodup_append.mp nd).2.2 c hc a List.mem_cons_self ec
  · refine Or.inl ⟨fun i hi ui ki => H ⟨i, hi, ui, ki⟩, fun a ha ka => H ⟨a, ?_, ?_, ka⟩⟩
    · exact cm_Sg_lt _ _ (g1 b hb) a ha
    · exact (g5 b hb a ha).1
theorem cm_room (G : cm_G fr hd nx ks us sp top L F) : F.length ≤ 8 :=
  cm_pig 8 F G.2.2.2.1 (cm_Sg_lt _ _ G.2.1)
theorem cm_room1 (G : cm_G fr hd nx ks us sp top L F) (ha : a < 8) (hu : us a ≠ 0) : F.length < 8 := by
  obtain ⟨g1, g2, g3, g4, g5, g6, g7, g8, g9, g10⟩ := G
  refine cm_pig 8 (a :: F) (List.nodup_cons.mpr ⟨fun h => hu (g6 a h), g4⟩) ?_
  intro x hx
  rcases List.mem_cons.mp hx with e | h
  · rw [e]; exact ha
  · exact cm_Sg_lt _ _ g2 x h
theorem cm_ins (G : cm_G fr hd nx ks us sp top L (a :: F)) (hb : b < 4) (hk : k &&& 3 = nI b) (hn : ∀ i, i < 8 → us i ≠ 0 → ¬ ks i = k) :
    cm_G (nx a) (upd hd b (nI a)) (upd nx a (hd b)) (upd ks a k) (upd us a 1) sp (nI F.length) (fun c => if c = b then a :: L b else L c) F := by
  obtain ⟨g1, g2, g3, g4, g5, g6, g7, g8, g9, g10⟩ := G
  obtain ⟨ea, ha, gF⟩ := cm_Sg_cons.mp g2
  have ua : us a = 0 := g6 a List.mem_cons_self
  have naF : a ∉ F := (List.nodup_cons.mp g4).1
  have naL : ∀ c, c < 4 → a ∉ L c := fun c hc h => (g5 c hc a h).1 ua
  refine ⟨?_, ?_, ?_, (List.nodup_cons.mp g4).2, ?_, ?_, ?_, ?_, rfl, (cm_Sp_cons.mp g10).2⟩
  · intro c hc
    have fL : cm_Sg (upd nx a (hd b)) (-1) (hd c) (L c) := cm_Sg_fr _ _ (fun x hx => pk_un (fun e => naL c hc (by rw [← e]; exact hx))) (g1 c hc)
    by_cases e : c = b
    · subst e
      dsimp only
      rw [if_pos rfl, pk_us]
      refine cm_Sg_cons.mpr ⟨rfl, ha, ?_⟩
      rw [pk_us]; exact fL
    · dsimp only
      rw [if_neg e, pk_un e]; exact fL
  · exact cm_Sg_fr _ _ (fun x hx => pk_un (fun e => naF (by rw [← e]; exact hx))) gF
  · intro c hc
    by_cases e : c = b
    · subst e
      dsimp only
      rw [if_pos rfl]
      exact List.nodup_cons.mpr ⟨naL c hc, g3 c hc⟩
    · dsimp only
      rw [if_neg e]; exact g3 c hc
  · intro c hc x hx
    have old : x ∈ L c → upd us a 1 x ≠ 0 ∧ upd ks a k x &&& 3 = nI c := by
      intro h
      have ne : x ≠ a := fun e => naL c hc (by rw [← e]; exact h)
      rw [pk_un ne, pk_un ne]; exact g5 c hc x h
    by_cases e : c = b
    · subst e
      dsimp only at hx
      rw [if_pos rfl] at hx
      rcases List.mem_cons.mp hx with e | h
      · rw [e, pk_us, pk_us]; exact ⟨by decide, hk⟩
      · exact old h
    · dsimp only at hx
      rw [if_neg e] at hx; exact old hx
  · intro x hx
    have ne : x ≠ a := fun e => naF (by rw [← e]; exact hx)
    rw [pk_un ne]; exact g6 x (List.mem_cons_of_mem _ hx)
  · intro x hx ux c hc kx
    dsimp only
    by_cases e : x = a
    · rw [e, pk_us] at kx
      have ecb : c = b := cm_inj hc hb (kx.symm.trans hk)
      rw [if_pos ecb, e]; exact List.mem_cons_self
    · rw [pk_un e] at kx ux
      have m := g7 x hx ux c hc kx
      by_cases ecb : c = b
      · rw [if_pos ecb]; rw [ecb] at m; exact List.mem_cons_of_mem _ m
      · rw [if_neg ecb]; exact m
  · intro i j hi hj ui uj e
    by_cases ei : i = a
    · by_cases ej : j = a
      · rw [ei, ej]
      · rw [ei, pk_us, pk_un ej] at e
        rw [pk_un ej] at uj
        exact absurd e.symm (hn j hj uj)
    · by_cases ej : j = a
      · rw [ej, pk_us, pk_un ei] at e
        rw [pk_un ei] at ui
        exact absurd e (hn i hi ui)
      · rw [pk_un ei, pk_un ej] at e
        rw [pk_un ei] at ui
        rw [pk_un ej] at uj
        exact g8 i j hi hj ui uj e
theorem cm_rem {p t : List Nat} {hd' nx' : Nat → Int32} (G : cm_G fr hd nx ks us sp top L F) (hb : b < 4) (ha : a < 8) (hu : us a ≠ 0) (eL : L b = p ++ a :: t)
    (h1 : cm_Sg nx' (-1) (hd' b) (p ++ t)) (h2 : ∀ c, c < 4 → c ≠ b → hd' c = hd c) (h3 : ∀ x, x ∉ p → x ≠ a → nx' x = nx x) (h4 : nx' a = fr) :
    cm_G (nI a) hd' nx' ks (upd us a 0) (upd sp F.length (nI a)) (nI (F.length + 1)) (fun c => if c = b then p ++ t else L c) (a :: F) := by
  obtain ⟨g1, g2, g3, g4, g5, g6, g7, g8, g9, g10⟩ := G
  have sub : ∀ x, x ∈ p ++ t → x ∈ L b := fun x hx => by
    rw [eL]
    rcases List.mem_append.mp hx with h | h
    · exact List.mem_append.mpr (Or.inl h)
    · exact List.mem_append.mpr (Or.inr (List.mem_cons_of_mem _ h))
  have aL : a ∈ L b := by rw [eL]; exact List.mem_append.mpr (Or.inr List.mem_cons_self)
  have nd := g3 b hb
  rw [eL] at nd
  obtain ⟨np, nat, nx3⟩ := List.nodup_append.mp nd
  obtain ⟨na, nt⟩ := List.nodup_cons.mp nat
  have naT : a ∉ p ++ t := fun h => by
    rcases List.mem_append.mp h with h | h
    · exact nx3 a h a List.mem_cons_self rfl
    · exact na h
  have naF : a ∉ F := fun h => hu (g6 a h)
  have far : ∀ x, x ∉ L b → nx' x = nx x := fun x hx => h3 x (fun h => hx (sub x (List.mem_append.mpr (Or.inl h)))) (fun e => hx (by rw [e]; exact aL))
  have apart : ∀ c, c < 4 → c ≠ b → ∀ x, x ∈ L c → x ∉ L b := fun c hc ne x hx hxb =>
    ne (cm_inj hc hb ((g5 c hc x hx).2.symm.trans (g5 b hb x hxb).2))
  refine ⟨?_, ?_, ?_, List.nodup_cons.mpr ⟨naF, g4⟩, ?_, ?_, ?_, ?_, rfl, ?_⟩
  · intro c hc
    by_cases e : c = b
    · subst e
      dsimp only
      rw [if_pos rfl]; exact h1
    · dsimp only
      rw [if_neg e, h2 c hc e]
      exact cm_Sg_fr _ _ (fun x hx => far x (apart c hc e x hx)) (g1 c hc)
  · refine cm_Sg_cons.mpr ⟨rfl, ha, ?_⟩
    rw [h4]
    exact cm_Sg_fr _ _ (fun x hx => far x (fun h => (g5 b hb x h).1 (g6 x hx))) g2
  · intro c hc
    by_cases e : c = b
    · subst e
      dsimp only
      rw [if_pos rfl]
      exact List.nodup_append.mpr ⟨np, nt, fun x hx y hy => nx3 x hx y (List.mem_cons_of_mem _ hy)⟩
    · dsimp only
      rw [if_neg e]; exact g3 c hc
  · intro c hc x hx
    by_cases e : c = b
    · subst e
      dsimp only at hx
      rw [if_pos rfl] at hx
      have ne : x ≠ a := fun e => naT (by rw [← e]; exact hx)
      rw [pk_un ne]; exact g5 c hc x (sub x hx)
    · dsimp only at hx
      rw [if_neg e] at hx
      have ne : x ≠ a := fun e' => apart c hc e x hx (by rw [e']; exact aL)
      rw [pk_un ne]; exact g5 c hc x hx
  · intro x hx
    rcases List.mem_cons.mp hx with e | h
    · rw [e, pk_us]
    · have ne : x ≠ a := fun e => naF (by rw [← e]; exact h)
      rw [pk_un ne]; exact g6 x h
  · intro x hx ux c hc kx
    dsimp only
    have ne : x ≠ a := fun e => by rw [e, pk_us] at ux; exact ux rfl
    rw [pk_un ne] at ux
    have m := g7 x hx ux c hc kx
    by_cases e : c = b
    · rw [if_pos e]
      rw [e, eL] at m
      rcases List.mem_append.mp m with h | h
      · exact List.mem_append.mpr (Or.inl h)
      · rcases List.mem_cons.mp h with h | h
        · exact absurd h ne
        · exact List.mem_append.mpr (Or.inr h)
    · rw [if_neg e]; exact m
  · intro i j hi hj ui uj e
    have ni : i ≠ a := fun e => by rw [e, pk_us] at ui; exact ui rfl
    have nj : j ≠ a := fun e => by rw [e, pk_us] at uj; exact uj rfl
    rw [pk_un ni] at ui
    rw [pk_un nj] at uj
    exact g8 i j hi hj ui uj e
  · exact cm_Sp_cons.mpr ⟨pk_us, cm_Sp_fr F (Nat.le_refl _) g10⟩
/-! the two ways to take a node out of its chain -/
theorem cm_rem0 {t : List Nat} (G : cm_G fr hd nx ks us sp top L F) (hb : b < 4) (ha : a < 8) (hu : us a ≠ 0) (eL : L b = [] ++ a :: t) :
    cm_G (nI a) (upd hd b (nx a)) (upd nx a fr) ks (upd us a 0) (upd sp F.length (nI a)) (nI (F.length + 1)) (fun c => if c = b then [] ++ t else L c) (a :: F) := by
  refine cm_rem G hb ha hu eL ?_ (fun c _ ne => pk_un ne) (fun x _ ne => pk_un ne) pk_us
  have h := G.1 b hb
  have nd := G.2.2.1 b hb
  rw [eL] at h nd
  obtain ⟨_, _, h⟩ := cm_Sg_cons.mp h
  rw [pk_us]
  exact cm_Sg_fr _ _ (fun x hx => pk_un (fun e => (List.nodup_cons.mp nd).1 (by rw [← e]; exact hx))) h
theorem cm_rem1 {q t : List Nat} {c : Nat} (G : cm_G fr hd nx ks us sp top L F) (hb : b < 4) (ha : a < 8) (hu : us a ≠ 0) (eL : L b = (q ++ [c]) ++ a :: t) :
    c < 8 ∧ cm_G (nI a) hd (upd (upd nx c (nx a)) a fr) ks (upd us a 0) (upd sp F.length (nI a)) (nI (F.length + 1)) (fun d => if d = b then (q ++ [c]) ++ t else L d) (a :: F) := by
  have h := G.1 b hb
  have nd := G.2.2.1 b hb
  rw [eL] at h nd
  obtain ⟨y, hp, hq⟩ := (cm_Sg_app _ _).mp h
  obtain ⟨w, hq1, hc1⟩ := (cm_Sg_app _ _).mp hp
  obtain ⟨ec, hc, ey⟩ := cm_Sg_cons.mp hc1
  obtain ⟨ea, _, ht⟩ := cm_Sg_cons.mp hq
  obtain ⟨np, nat, n3⟩ := List.nodup_append.mp nd
  obtain ⟨na, nt⟩ := List.nodup_cons.mp nat
  obtain ⟨nq, _, n4⟩ := List.nodup_append.mp np
  have cp : c ∈ q ++ [c] := List.mem_append.mpr (Or.inr List.mem_cons_self)
  have ca : c ≠ a := n3 c cp a List.mem_cons_self
  refine ⟨hc, cm_rem G hb ha hu eL ?_ (fun _ _ _ => rfl) ?_ pk_us⟩
  · refine (cm_Sg_app _ _).mpr ⟨nx a, (cm_Sg_app _ _).mpr ⟨w, ?_, cm_Sg_cons.mpr ⟨ec, hc, ?_⟩⟩, ?_⟩
    · refine cm_Sg_fr _ _ (fun x hx => ?_) hq1
      have h5 : x ≠ c := n4 x hx c List.mem_cons_self
      have h6 : x ≠ a := n3 x (List.mem_append.mpr (Or.inl hx)) a List.mem_cons_self
      rw [pk_un h6, pk_un h5]
    · rw [pk_un ca, pk_us]; exact cm_Sg_nil.mpr rfl
    · refine cm_Sg_fr _ _ (fun x hx => ?_) ht
      have h5 : x ≠ c := fun e => n3 c cp x (List.mem_cons_of_mem _ hx) e.symm
      have h6 : x ≠ a := fun e => na (by rw [← e]; exact hx)
      rw [pk_un h6, pk_un h5]
  · intro x hx ne
    have h5 : x ≠ c := fun e => hx (by rw [e]; exact cp)
    rw [pk_un ne, pk_un h5]
end
end
section
/-! the reference's walks -/
section
variable {k v top : Int32} {ks vs us sp : Nat → Int32}
theorem cm_Yn {post : Int32 → Prop} (H : ∀ i, i < 8 → us i ≠ 0 → ¬ ks i = k) (hp : post (-1)) : ∀ d j : Nat, j + d = 8 → wY_slot_2 post k top ks vs us sp (d + 1) (nI j) := by
  intro d
  induction d with
  | zero =>
    intro j hj
    have h : (8 : Int32) ≤ nI j := by rw [← cm_8]; exact nI_le (by omega) (by omega)
    exact br_t h hp
  | succ d ih =>
    intro j hj
    have h : ¬ (8 : Int32) ≤ nI j := by rw [← cm_8]; exact nI_ge (by omega) (by omega)
    have hi : vp_in (nI j) 8 := cm_in (by omega)
    have c : (nI j).toNatClampNeg = j := cm_cl (by omega)
    refine br_f h ⟨hi, br_c (fun _ y ey => ?_) (fun hu => ⟨hi, br_f ?_ (fun y ey => ?_)⟩)⟩
    · rw [ey, nI_1]; exact ih (j + 1) (by omega)
    · rw [c] at hu ⊢; exact H j (by omega) hu
    · rw [ey, nI_1]; exact ih (j + 1) (by omega)
theorem cm_Yf {post : Int32 → Prop} {i : Nat} (hi : i < 8) (hu : us i ≠ 0) (hk : ks i = k) (U : ∀ j, j < 8 → us j ≠ 0 → ks j = k → j = i) (hp : post (nI i)) : ∀ d j : Nat, j + d = i → wY_slot_2 post k top ks vs us sp (d + 1) (nI j) := by
  intro d
  induction d with
  | zero =>
    intro j hj
    have e : j = i := hj
    subst e
    have h : ¬ (8 : Int32) ≤ nI j := by rw [← cm_8]; exact nI_ge (by omega) (by omega)
    have c : (nI j).toNatClampNeg = j := cm_cl hi
    refine br_f h ⟨cm_in hi, br_f ?_ ⟨cm_in hi, br_t ?_ hp⟩⟩
    · rw [c]; exact hu
    · rw [c]; exact hk
  | succ d ih =>
    intro j hj
    have h : ¬ (8 : Int32) ≤ nI j := by rw [← cm_8]; exact nI_ge (by omega) (by omega)
    have hj8 : vp_in (nI j) 8 := cm_in (by omega)
    have c : (nI j).toNatClampNeg = j := cm_cl (by omega)
    refine br_f h ⟨hj8, br_c (fun _ y ey => ?_) (fun hu' => ⟨hj8, br_f ?_ (fun y ey => ?_)⟩)⟩
    · rw [ey, nI_1]; exact ih (j + 1) (by omega)
    · rw [c] at hu' ⊢
      intro kj
      have := U j (by omega) hu' kj
      omega
    · rw [ey, nI_1]; exact ih (j + 1) (by omega)
theorem cm_YN {post : Int32 → Prop} (H : ∀ i, i < 8 → us i ≠ 0 → ¬ ks i = k) (hp : post (-1)) : wpY_slot post (top, ks, vs, us, sp) k := by
  have h := cm_Yn (top := top) (vs := vs) (sp := sp) H hp 8 0 rfl
  rw [nI_0] at h
  exact ⟨_, h⟩
theorem cm_YF {post : Int32 → Prop} {i : Nat} (hi : i < 8) (hu : us i ≠ 0) (hk : ks i = k) (U : ∀ j, j < 8 → us j ≠ 0 → ks j = k → j = i) (hp : post (nI i)) : wpY_slot post (top, ks, vs, us, sp) k := by
  have h := cm_Yf (top := top) (vs := vs) (sp := sp) hi hu hk U hp i 0 (Nat.zero_add i)
  rw [nI_0] at h
  exact ⟨_, h⟩
theorem cm_YgN {post : Int32 → Prop} (H : ∀ i, i < 8 → us i ≠ 0 → ¬ ks i = k) (hp : post (-1)) : wpY_get post (top, ks, vs, us, sp) k := by
  unfold wpY_get
  dsimp only
  exact cm_YN H (br_f (by decide) hp)
theorem cm_YgF {post : Int32 → Prop} {i : Nat} (hi : i < 8) (hu : us i ≠ 0) (hk : ks i = k) (U : ∀ j, j < 8 → us j ≠ 0 → ks j = k → j = i) (hp : post (vs i)) : wpY_get post (top, ks, vs, us, sp) k := by
  unfold wpY_get
  dsimp only
  refine cm_YF hi hu hk U (br_t (nI_pos' (by omega)) ⟨cm_in hi, ?_⟩)
  rw [cm_cl hi]; exact hp
theorem cm_YpE {post : Int32 → SY → Prop} (H : ∀ i, i < 8 → us i ≠ 0 → ¬ ks i = k) (hp : post (-1) (0, ks, vs, us, sp)) : wpY_put post (0, ks, vs, us, sp) k v := by
  unfold wpY_put
  dsimp only
  exact cm_YN H (br_t (by decide) (br_t rfl hp))
theorem cm_YpN {post : Int32 → SY → Prop} {m a : Nat} (hm : m < 8) (ha : a < 8) (es : sp m = nI a) (H : ∀ i, i < 8 → us i ≠ 0 → ¬ ks i = k) (hp : post 0 (nI m, upd ks a k, upd vs a v, upd us a 1, sp)) : wpY_put post (nI (m + 1), ks, vs, us, sp) k v := by
  unfold wpY_put
  dsimp only
  refine cm_YN H (br_t (by decide) (br_f (nI_ne0 (by omega) (by omega)) ?_))
  rw [nI_pred, cm_cl hm, es, show vp_nar .boolean 1 = 1 from rfl]
  intro t1 e1
  refine ⟨cm_in hm, ?_⟩
  intro x e2
  subst e1
  subst e2
  rw [cm_cl ha]
  refine ⟨cm_in ha, ?_⟩
  intro u1 e3
  subst e3
  refine ⟨cm_in ha, ?_⟩
  intro u2 e4
  subst e4
  refine ⟨cm_in ha, ?_⟩
  intro u3 e5
  subst e5
  exact hp
theorem cm_YpF {post : Int32 → SY → Prop} {i : Nat} (hi : i < 8) (hu : us i ≠ 0) (hk : ks i = k) (U : ∀ j, j < 8 → us j ≠ 0 → ks j = k → j = i) (hp : post 1 (top, ks, upd vs i v, us, sp)) : wpY_put post (top, ks, vs, us, sp) k v := by
  unfold wpY_put
  dsimp only
  refine cm_YF hi hu hk U (br_f (nI_pos (by omega)) ⟨cm_in hi, ?_⟩)
  rw [cm_cl hi]
  intro y e
  subst e
  exact hp
theorem cm_YrN {post : Int32 → SY → Prop} (H : ∀ i, i < 8 → us i ≠ 0 → ¬ ks i = k) (hp : post (-1) (top, ks, vs, us, sp)) : wpY_remove post (top, ks, vs, us, sp) k := by
  unfold wpY_remove
  dsimp only
  exact cm_YN H (br_f (by decide) hp)
theorem cm_YrF {post : Int32 → SY → Prop} {m i : Nat} (hm : m < 8) (hi : i < 8) (hu : us i ≠ 0) (hk : ks i = k) (U : ∀ j, j < 8 → us j ≠ 0 → ks j = k → j = i) (hp : post (vs i) (nI (m + 1), ks, vs, upd us i 0, upd sp m (nI i))) : wpY_remove post (nI m, ks, vs, us, sp) k := by
  unfold wpY_remove
  dsimp only
  refine cm_YF hi hu hk U (br_t (nI_pos' (by omega)) ⟨cm_in hi, ?_⟩)
  rw [cm_cl hi, cm_cl hm, cm_sh8 hi, cm_nar (cm_sh8 hi), nI_1, show vp_nar .boolean 0 = 0 from rfl]
  intro u1 e1 t1 e2
  subst e1
  subst e2
  refine ⟨cm_in hm, ?_⟩
  intro s1 e3
  subst e3
  exact ⟨cm_in hi, hp⟩
end
/-! the reference's constructor -/
theorem cm_y36 {post : SY → Prop} {ks vs us : Nat → Int32} (H : ∀ sp : Nat → Int32, (∀ i, i < 8 → sp i = nI (7 - i)) → post (nI 8, ks, vs, us, sp)) : ∀ (d j : Nat) (sp : Nat → Int32), j + d = 8 → (∀ i, i < j → sp i = nI (7 - i)) → wY_init_36 post (d + 1) (nI j) ks vs us sp := by
  intro d
  induction d with
  | zero =>
    intro j sp hj hs
    have e : j = 8 := hj
    subst e
    exact br_t (by rw [← cm_8]; exact nI_le (by omega) (by omega)) (H sp hs)
  | succ d ih =>
    intro j sp hj hs
    have h : ¬ (8 : Int32) ≤ nI j := by rw [← cm_8]; exact nI_ge (by omega) (by omega)
    refine br_f h ⟨cm_in (by omega), ?_⟩
    have e7 : (7 : Int32) - nI j = nI (7 - j) := by rw [← cm_7]; exact pk_sub (by omega)
    rw [e7, cm_sh8 (a := 7 - j) (by omega), cm_nar (cm_sh8 (a := 7 - j) (by omega)), cm_cl (by omega), nI_1]
    intro s1 e1 t1 e2
    subst e1
    subst e2
    refine ih (j + 1) _ (by omega) (fun i hi => ?_)
    by_cases e : i = j
    · rw [e, pk_us]
    · rw [pk_un e]; exact hs i (by omega)
end
section
/-! the component's walks: the nodes of a list are passed, then what the loop asks at z -/
section
variable {k v x3 z fr : Int32} {hd nx ks vs : Nat → Int32}
theorem cm_Xs {post : Int32 → Prop} (H : ∀ n, wX_slot_9 post k fr hd nx ks vs (n + 1) z) : ∀ (p : List Nat) (x : Int32), cm_Sg nx z x p → (∀ a, a ∈ p → ¬ ks a = k) → ∃ n, wX_slot_9 post k fr hd nx ks vs n x := by
  intro p
  induction p with
  | nil =>
    intro x h _
    rw [cm_Sg_nil.mp h]
    exact ⟨1, H 0⟩
  | cons a t ih =>
    intro x h hk
    obtain ⟨e, ha, ht⟩ := cm_Sg_cons.mp h
    obtain ⟨n, hn⟩ := ih _ ht (fun b hb => hk b (List.mem_cons_of_mem _ hb))
    subst e
    have c : (nI a).toNatClampNeg = a := cm_cl ha
    refine ⟨n + 1, br_f (cm_ne1 a ha) ⟨cm_in ha, br_f ?_ ⟨cm_in ha, fun y ey => ?_⟩⟩⟩
    · rw [c]; exact hk a List.mem_cons_self
    · rw [ey, c]; exact hn
theorem cm_Xg {post : Int32 → Prop} (H : ∀ n, wX_get_9 post k fr hd nx ks vs (n + 1) z) : ∀ (p : List Nat) (x : Int32), cm_Sg nx z x p → (∀ a, a ∈ p → ¬ ks a = k) → ∃ n, wX_get_9 post k fr hd nx ks vs n x := by
  intro p
  induction p with
  | nil =>
    intro x h _
    rw [cm_Sg_nil.mp h]
    exact ⟨1, H 0⟩
  | cons a t ih =>
    intro x h hk
    obtain ⟨e, ha, ht⟩ := cm_Sg_cons.mp h
    obtain ⟨n, hn⟩ := ih _ ht (fun b hb => hk b (List.mem_cons_of_mem _ hb))
    subst e
    have c : (nI a).toNatClampNeg = a := cm_cl ha
    refine ⟨n + 1, br_f (cm_ne1 a ha) ⟨cm_in ha, br_f ?_ ⟨cm_in ha, fun y ey => ?_⟩⟩⟩
    · rw [c]; exact hk a List.mem_cons_self
    · rw [ey, c]; exact hn
theorem cm_Xp {post : Int32 → SX → Prop} (H : ∀ n, wX_put_12 post k v x3 fr hd nx ks vs (n + 1) z) : ∀ (p : List Nat) (x : Int32), cm_Sg nx z x p → (∀ a, a ∈ p → ¬ ks a = k) → ∃ n, wX_put_12 post k v x3 fr hd nx ks vs n x := by
  intro p
  induction p with
  | nil =>
    intro x h _
    rw [cm_Sg_nil.mp h]
    exact ⟨1, H 0⟩
  | cons a t ih =>
    intro x h hk
    obtain ⟨e, ha, ht⟩ := cm_Sg_cons.mp h
    obtain ⟨n, hn⟩ := ih _ ht (fun b hb => hk b (List.mem_cons_of_mem _ hb))
    subst e
    have c : (nI a).toNatClampNeg = a := cm_cl ha
    refine ⟨n + 1, br_f (cm_ne1 a ha) ⟨cm_in ha, br_f ?_ ⟨cm_in ha, fun y ey => ?_⟩⟩⟩
    · rw [c]; exact hk a List.mem_cons_self
    · rw [ey, c]; exact hn
/-! the node ahead of z -/
def cm_pv : Int32 → List Nat → Int32
  | x, [] => x
  | _, a :: t => cm_pv (nI a) t
theorem cm_pv_app {c : Nat} : ∀ (q : List Nat) (x : Int32), cm_pv x (q ++ [c]) = nI c := by
  intro q
  induction q with
  | nil => intro x; rfl
  | cons a t ih => intro x; exact ih (nI a)
theorem cm_Xr {post : Int32 → SX → Prop} : ∀ (p : List Nat) (y x : Int32), (∀ n, wX_remove_14 post k x3 fr hd nx ks vs (n + 1) (cm_pv y p) z) → cm_Sg nx z x p → (∀ a, a ∈ p → ¬ ks a = k) → ∃ n, wX_remove_14 post k x3 fr hd nx ks vs n y x := by
  intro p
  induction p with
  | nil =>
    intro y x H h _
    rw [cm_Sg_nil.mp h]
    exact ⟨1, H 0⟩
  | cons a t ih =>
    intro y x H h hk
    obtain ⟨e, ha, ht⟩ := cm_Sg_cons.mp h
    obtain ⟨n, hn⟩ := ih (nI a) _ H ht (fun b hb => hk b (List.mem_cons_of_mem _ hb))
    subst e
    have c : (nI a).toNatClampNeg = a := cm_cl ha
    refine ⟨n + 1, br_f (cm_ne1 a ha) ⟨cm_in ha, br_f ?_ ⟨cm_in ha, fun w ew => ?_⟩⟩⟩
    · rw [c]; exact hk a List.mem_cons_self
    · rw [ew, c]; exact hn
/-! what the loops ask at their ends -/
theorem cm_Xs1 {post : Int32 → Prop} {a n : Nat} (ha : a < 8) (hk : ks a = k) (hp : post (nI a)) : wX_slot_9 post k fr hd nx ks vs (n + 1) (nI a) := by
  refine br_f (cm_ne1 a ha) ⟨cm_in ha, br_t ?_ hp⟩
  rw [cm_cl ha]; exact hk
theorem cm_Xg1 {post : Int32 → Prop} {a n : Nat} (ha : a < 8) (hk : ks a = k) (hp : post (vs a)) : wX_get_9 post k fr hd nx ks vs (n + 1) (nI a) := by
  refine br_f (cm_ne1 a ha) ⟨cm_in ha, br_t ?_ ⟨cm_in ha, ?_⟩⟩
  · rw [cm_cl ha]; exact hk
  · rw [cm_cl ha]; exact hp
theorem cm_Xp1 {post : Int32 → SX → Prop} {a n : Nat} (ha : a < 8) (hk : ks a = k) (hp : post 1 (fr, hd, nx, ks, upd vs a v)) : wX_put_12 post k v x3 fr hd nx ks vs (n + 1) (nI a) := by
  refine br_f (cm_ne1 a ha) ⟨cm_in ha, br_t ?_ ⟨cm_in ha, fun y ey => ?_⟩⟩
  · rw [cm_cl ha]; exact hk
  · rw [ey, cm_cl ha]; exact hp
theorem cm_XpE {post : Int32 → SX → Prop} {n : Nat} (hf : fr = -1) (hp : post (-1) (fr, hd, nx, ks, vs)) : wX_put_12 post k v x3 fr hd nx ks vs (n + 1) (-1) :=
  br_t rfl (br_t hf hp)
theorem cm_XpN {post : Int32 → SX → Prop} {a b n : Nat} (ha : a < 8) (hb : b < 4) (h1 : (nx a).toInt16.toInt32 = nx a) (h2 : (hd b).toInt16.toInt32 = hd b)
    (hp : post 0 (nx a, upd hd b (nI a), upd nx a (hd b), upd ks a k, upd vs a v)) : wX_put_12 post k v (nI b) (nI a) hd nx ks vs (n + 1) (-1) := by
  refine br_t rfl (br_f (cm_ne1 a ha) ⟨cm_in ha, ?_⟩)
  rw [cm_cl ha, cm_sh8 ha, cm_nar (cm_sh8 ha), nI_clamp (n := b) (by omega), cm_nar h2]
  intro f1 e1
  subst e1
  refine ⟨cm_narrow h1, cm_fits h1, cm_in ha, ?_⟩
  intro a1 e2
  subst e2
  refine ⟨cm_in ha, ?_⟩
  intro a2 e3
  subst e3
  refine ⟨cm_in4 hb, cm_in ha, ?_⟩
  intro a3 e4
  subst e4
  refine ⟨cm_in4 hb, ?_⟩
  intro a4 e5
  subst e5
  exact hp
theorem cm_65 {post : Int32 → SX → Prop} {a : Nat} (ha : a < 8) (hf : fr.toInt16.toInt32 = fr) (hp : post (vs a) (nI a, hd, upd nx a fr, ks, vs)) : wX_remove_65 post (nI a) fr hd nx ks vs := by
  unfold wX_remove_65
  rw [cm_cl ha, cm_nar hf, cm_sh8 ha]
  refine ⟨cm_in ha, ?_⟩
  intro a1 e1
  subst e1
  exact ⟨cm_narrow (cm_sh8 ha), cm_fits (cm_sh8 ha), cm_in ha, hp⟩
theorem cm_Xr0 {post : Int32 → SX → Prop} {a b n : Nat} (ha : a < 8) (hb : b < 4) (hk : ks a = k) (h1 : (nx a).toInt16.toInt32 = nx a) (hf : fr.toInt16.toInt32 = fr)
    (hp : post (vs a) (nI a, upd hd b (nx a), upd nx a fr, ks, vs)) : wX_remove_14 post k (nI b) fr hd nx ks vs (n + 1) (-1) (nI a) := by
  refine br_f (cm_ne1 a ha) ⟨cm_in ha, br_t (by rw [cm_cl ha]; exact hk) (br_t rfl ⟨cm_in ha, cm_in4 hb, ?_⟩)⟩
  rw [cm_cl ha, nI_clamp (n := b) (by omega), cm_nar h1]
  intro a1 e1
  subst e1
  exact cm_65 ha hf hp
theorem cm_Xr1 {post : Int32 → SX → Prop} {a c n : Nat} (ha : a < 8) (hc : c < 8) (hk : ks a = k) (h1 : (nx a).toInt16.toInt32 = nx a) (hf : fr.toInt16.toInt32 = fr)
    (hp : post (vs a) (nI a, hd, upd (upd nx c (nx a)) a fr, ks, vs)) : wX_remove_14 post k x3 fr hd nx ks vs (n + 1) (nI c) (nI a) := by
  refine br_f (cm_ne1 a ha) ⟨cm_in ha, br_t (by rw [cm_cl ha]; exact hk) (br_f (cm_ne1 c hc) ⟨cm_in ha, cm_in hc, ?_⟩)⟩
  rw [cm_cl ha, cm_cl hc, cm_nar h1]
  intro a1 e1
  subst e1
  exact cm_65 ha hf hp
end
/-! the component's constructor -/
theorem cm_i57 {post : SX → Prop} {fr : Int32} {hd ks vs : Nat → Int32} (H : ∀ nx : Nat → Int32, (∀ i, i < 7 → nx i = nI (i + 1)) → nx 7 = -1 → post (0, hd, nx, ks, vs)) : ∀ (d j : Nat) (nx : Nat → Int32), j + d = 8 → (∀ i, i < j → nx i = nI (i + 1)) → wX_init_57 post fr (d + 1) (nI j) hd nx ks vs := by
  intro d
  induction d with
  | zero =>
    intro j nx hj hs
    have e : j = 8 := hj
    subst e
    refine br_t (by rw [← cm_8]; exact nI_le (by omega) (by omega)) ?_
    rw [cm_nar cm_shm]
    intro a1 e1
    subst e1
    exact H _ (fun i hi => by rw [pk_un (by omega)]; exact hs i (by omega)) pk_us
  | succ d ih =>
    intro j nx hj hs
    have h : ¬ (8 : Int32) ≤ nI j := by rw [← cm_8]; exact nI_ge (by omega) (by omega)
    refine br_f h ⟨cm_in (by omega), ?_⟩
    rw [nI_1, cm_sh9 (j + 1) (by omega), cm_nar (cm_sh9 (j + 1) (by omega)), cm_cl (by omega)]
    intro s1 e1 t1 e2
    subst e1
    subst e2
    refine ih (j + 1) _ (by omega) (fun i hi => ?_)
    by_cases e : i = j
    · rw [e, pk_us]
    · rw [pk_un e]; exact hs i (by omega)
theorem cm_i37 {post : SX → Prop} {fr : Int32} {nx ks vs : Nat → Int32} (H : ∀ hd : Nat → Int32, (∀ i, i < 4 → hd i = -1) → ∃ n, wX_init_57 post fr n 0 hd nx ks vs) : ∀ (d j : Nat) (hd : Nat → Int32), j + d = 4 → (∀ i, i < j → hd i = -1) → wX_init_37 post fr (d + 1) (nI j) hd nx ks vs := by
  intro d
  induction d with
  | zero =>
    intro j hd hj hs
    have e : j = 4 := hj
    subst e
    exact br_t (by rw [← cm_4]; exact nI_le (by omega) (by omega)) (H hd hs)
  | succ d ih =>
    intro j hd hj hs
    have h : ¬ (4 : Int32) ≤ nI j := by rw [← cm_4]; exact nI_ge (by omega) (by omega)
    refine br_f h ⟨cm_in4 (by omega), ?_⟩
    rw [nI_1, cm_nar cm_shm, cm_cl (by omega)]
    intro s1 e1 t1 e2
    subst e1
    subst e2
    refine ih (j + 1) _ (by omega) (fun i hi => ?_)
    by_cases e : i = j
    · rw [e, pk_us]
    · rw [pk_un e]; exact hs i (by omega)
end
section
/-- keys and values are the same on both sides; chains and free nodes by cm_G -/
def i_Rel (_ : Nat) (u : SX) (v : SY) : Prop := ∃ (fr top : Int32) (hd nx ks vs us sp : Nat → Int32) (L : Nat → List Nat) (F : List Nat), u = (fr, hd, nx, ks, vs) ∧ v = (top, ks, vs, us, sp) ∧ cm_G fr hd nx ks us sp top L F
theorem i_up {k : Nat} {u : SX} {v : SY} (h : i_Rel k u v) : i_Rel (k + 3) u v := h
theorem cm_rel {k : Nat} {fr top : Int32} {hd nx ks vs us sp : Nat → Int32} {L : Nat → List Nat} {F : List Nat} (G : cm_G fr hd nx ks us sp top L F) : i_Rel k (fr, hd, nx, ks, vs) (top, ks, vs, us, sp) :=
  ⟨fr, top, hd, nx, ks, vs, us, sp, L, F, rfl, rfl, G⟩
theorem cm_new {hd nx sp ks : Nat → Int32} (h1 : ∀ i, i < 4 → hd i = -1) (h2 : ∀ i, i < 7 → nx i = nI (i + 1)) (h3 : nx 7 = -1) (h4 : ∀ i, i < 8 → sp i = nI (7 - i)) : cm_G 0 hd nx ks (fun _ => 0) sp (nI 8) (fun _ => []) [0, 1, 2, 3, 4, 5, 6, 7] := by
  refine ⟨fun b hb => cm_Sg_nil.mpr (h1 b hb), ?_, fun _ _ => List.nodup_nil, by decide, fun b _ a ha => absurd ha List.not_mem_nil, fun _ _ => rfl, fun a _ hu => absurd rfl hu, fun i _ _ _ hu => absurd rfl hu, rfl, ?_⟩
  · refine cm_Sg_cons.mpr ⟨nI_0.symm, by decide, ?_⟩
    refine cm_Sg_cons.mpr ⟨h2 0 (by decide), by decide, ?_⟩
    refine cm_Sg_cons.mpr ⟨h2 1 (by decide), by decide, ?_⟩
    refine cm_Sg_cons.mpr ⟨h2 2 (by decide), by decide, ?_⟩
    refine cm_Sg_cons.mpr ⟨h2 3 (by decide), by decide, ?_⟩
    refine cm_Sg_cons.mpr ⟨h2 4 (by decide), by decide, ?_⟩
    refine cm_Sg_cons.mpr ⟨h2 5 (by decide), by decide, ?_⟩
    refine cm_Sg_cons.mpr ⟨h2 6 (by decide), by decide, ?_⟩
    exact cm_Sg_nil.mpr h3
  · exact ⟨h4 7 (by decide), h4 6 (by decide), h4 5 (by decide), h4 4 (by decide), h4 3 (by decide), h4 2 (by decide), h4 1 (by decide), h4 0 (by decide), True.intro⟩
theorem i_vc0 : wpX_init (fun u => wpY_init (fun v => i_Rel 0 u v)) := by
  have h := cm_i37 (post := fun u => wpY_init (fun v => i_Rel 0 u v)) (fr := 0) (nx := fun _ => 0) (ks := fun _ => 0) (vs := fun _ => 0) (fun hd h1 => by
    have h' := cm_i57 (post := fun u => wpY_init (fun v => i_Rel 0 u v)) (fr := 0) (hd := hd) (ks := fun _ => 0) (vs := fun _ => 0) (fun nx h2 h3 => by
      have h'' := cm_y36 (post := fun v => i_Rel 0 (0, hd, nx, (fun _ => 0), (fun _ => 0)) v) (ks := fun _ => 0) (vs := fun _ => 0) (us := fun _ => 0) (fun sp h4 => cm_rel (cm_new h1 h2 h3 h4)) 8 0 (fun _ => 0) rfl (fun i hi => absurd hi (Nat.not_lt_zero _))
      rw [nI_0] at h''
      exact ⟨_, h''⟩) 8 0 (fun _ => 0) rfl (fun i hi => absurd hi (Nat.not_lt_zero _))
    rw [nI_0] at h'
    exact ⟨_, h'⟩) 4 0 (fun _ => 0) rfl (fun i hi => absurd hi (Nat.not_lt_zero _))
  rw [nI_0] at h
  exact ⟨_, h⟩
theorem i_vc_put {k : Nat} {u : SX} {v : SY} (I : i_Rel k u v) (hk : k + 3 ≤ 1536) (v1 : Int32) (v2 : Int32) : wpX_put (fun r u' => wpY_put (fun r' v' => r' = r ∧ i_Rel (k + 3) u' v') v v1 v2) u v1 v2 := by
  obtain ⟨fr, top, hd, nx, ks, vs, us, sp, L, F, rfl, rfl, G⟩ := I
  obtain ⟨b, hb, eb, C⟩ := cm_cs G v1
  unfold wpX_put
  dsimp only
  rw [eb]
  intro x3 e3
  subst e3
  refine ⟨cm_in4 hb, ?_⟩
  rw [nI_clamp (n := b) (by omega)]
  intro x4 e4
  subst e4
  have g1 := G.1 b hb
  rcases C with ⟨hy, hx⟩ | ⟨a, p, t, ha, hu, hk, eL, hp, hU⟩
  · refine cm_Xp (fun n => ?_) (L b) (hd b) g1 hx
    cases F with
    | nil =>
      have e9 : top = 0 := G.2.2.2.2.2.2.2.2.1
      have e2 : fr = -1 := G.2.1
      refine cm_XpE e2 ?_
      rw [e9]
      rw [e9] at G
      exact cm_YpE hy ⟨rfl, cm_rel G⟩
    | cons a F =>
      have hm := cm_room G
      rw [List.length_cons] at hm
      have e9 : top = nI (F.length + 1) := G.2.2.2.2.2.2.2.2.1
      obtain ⟨ef, ha, gF⟩ := cm_Sg_cons.mp G.2.1
      have es := (cm_Sp_cons.mp G.2.2.2.2.2.2.2.2.2).1
      have G' := cm_ins G hb eb hy
      rw [ef, e9]
      exact cm_XpN ha hb (cm_Sg_sh gF) (cm_Sg_sh g1) (cm_YpN (by omega) ha es hy ⟨rfl, cm_rel G'⟩)
  · rw [eL] at g1
    obtain ⟨y, g1, g2⟩ := (cm_Sg_app _ _).mp g1
    obtain ⟨ey, _, _⟩ := cm_Sg_cons.mp g2
    rw [ey] at g1
    exact cm_Xp (fun n => cm_Xp1 ha hk (cm_YpF ha hu hk hU ⟨rfl, cm_rel G⟩)) p (hd b) g1 hp
theorem i_vc_get {k : Nat} {u : SX} {v : SY} (I : i_Rel k u v) (hk : k + 3 ≤ 1536) (v1 : Int32) : wpX_get (fun r => wpY_get (fun r' => r' = r ∧ i_Rel (k + 3) u v) v v1) u v1 := by
  have I' : i_Rel (k + 3) u v := i_up I
  obtain ⟨fr, top, hd, nx, ks, vs, us, sp, L, F, rfl, rfl, G⟩ := I
  obtain ⟨b, hb, eb, C⟩ := cm_cs G v1
  unfold wpX_get
  dsimp only
  rw [eb]
  refine ⟨cm_in4 hb, ?_⟩
  rw [nI_clamp (n := b) (by omega)]
  intro x4 e4
  subst e4
  have g1 := G.1 b hb
  rcases C with ⟨hy, hx⟩ | ⟨a, p, t, ha, hu, hk, eL, hp, hU⟩
  · refine cm_Xg (fun n => ?_) (L b) (hd b) g1 hx
    refine br_t rfl ?_
    exact cm_YgN hy ⟨rfl, I'⟩
  · rw [eL] at g1
    obtain ⟨y, g1, g2⟩ := (cm_Sg_app _ _).mp g1
    obtain ⟨ey, _, _⟩ := cm_Sg_cons.mp g2
    rw [ey] at g1
    refine cm_Xg (fun n => ?_) p (hd b) g1 hp
    refine cm_Xg1 ha hk ?_
    exact cm_YgF ha hu hk hU ⟨rfl, I'⟩
theorem i_vc_remove {k : Nat} {u : SX} {v : SY} (I : i_Rel k u v) (hk : k + 3 ≤ 1536) (v1 : Int32) : wpX_remove (fun r u' => wpY_remove (fun r' v' => r' = r ∧ i_Rel (k + 3) u' v') v v1) u v1 := by
  obtain ⟨fr, top, hd, nx, ks, vs, us, sp, L, F, rfl, rfl, G⟩ := I
  obtain ⟨b, hb, eb, C⟩ := cm_cs G v1
  unfold wpX_remove
  dsimp only
  rw [eb]
  intro x3 e3
  subst e3
  refine ⟨cm_in4 hb, ?_⟩
  rw [nI_clamp (n := b) (by omega)]
  intro x4 e4
  subst e4
  have g1 := G.1 b hb
  have e9 := G.2.2.2.2.2.2.2.2.1
  have sf := cm_Sg_sh G.2.1
  rcases C with ⟨hy, hx⟩ | ⟨a, p, t, ha, hu, hk, eL, hp, hU⟩
  · exact cm_Xr (L b) (-1) (hd b) (fun n => br_t rfl (cm_YrN hy ⟨rfl, cm_rel G⟩)) g1 hx
  · rw [eL] at g1
    obtain ⟨y, g1, g2⟩ := (cm_Sg_app _ _).mp g1
    obtain ⟨ey, _, g3⟩ := cm_Sg_cons.mp g2
    rw [ey] at g1
    have sn := cm_Sg_sh g3
    have hm := cm_room1 G ha hu
    rw [e9]
    refine cm_Xr p (-1) (hd b) (fun n => ?_) g1 hp
    rcases List.eq_nil_or_concat p with e | ⟨q, c, e⟩
    · subst e
      have G' := cm_rem0 G hb ha hu eL
      exact cm_Xr0 ha hb hk sn sf (cm_YrF hm ha hu hk hU ⟨rfl, cm_rel G'⟩)
    · rw [List.concat_eq_append] at e
      subst e
      obtain ⟨hc, G'⟩ := cm_rem1 G hb ha hu eL
      rw [cm_pv_app]
      exact cm_Xr1 ha hc hk sn sf (cm_YrF hm ha hu hk hU ⟨rfl, cm_rel G'⟩)
theorem i_vc_slot {k : Nat} {u : SX} {v : SY} (I : i_Rel k u v) (hk : k + 3 ≤ 1536) (v1 : Int32) : wpX_slot (fun r => wpY_slot (fun r' => r' = r ∧ i_Rel (k + 3) u v) v v1) u v1 := by
  have I' : i_Rel (k + 3) u v := i_up I
  obtain ⟨fr, top, hd, nx, ks, vs, us, sp, L, F, rfl, rfl, G⟩ := I
  obtain ⟨b, hb, eb, C⟩ := cm_cs G v1
  unfold wpX_slot
  dsimp only
  rw [eb]
  refine ⟨cm_in4 hb, ?_⟩
  rw [nI_clamp (n := b) (by omega)]
  intro x4 e4
  subst e4
  have g1 := G.1 b hb
  rcases C with ⟨hy, hx⟩ | ⟨a, p, t, ha, hu, hk, eL, hp, hU⟩
  · refine cm_Xs (fun n => ?_) (L b) (hd b) g1 hx
    refine br_t rfl ?_
    exact cm_YN hy ⟨rfl, I'⟩
  · rw [eL] at g1
    obtain ⟨y, g1, g2⟩ := (cm_Sg_app _ _).mp g1
    obtain ⟨ey, _, _⟩ := cm_Sg_cons.mp g2
    rw [ey] at g1
    refine cm_Xs (fun n => ?_) p (hd b) g1 hp
    refine cm_Xs1 ha hk ?_
    exact cm_YF ha hu hk hU ⟨rfl, I'⟩
end
