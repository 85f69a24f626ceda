set_option maxRecDepth 100000
/-! walks: Parser.reads, House.line -/
section READB
variable {f f' pc : Nat} {mi mi' : MI} {ls st as stk : List AV} {m : MM} {Q Q' : Int → MM → Prop} {T T' : MM → Prop} {np : Nat} {a : Int}
def CCW (f : Nat) (mi : MI) (as : List AV) (m : MM) (Q : Int → MM → Prop) (T : MM → Prop) : Prop := CTW f mi as (NT, GG, m) (q2 Q) (t2 T)
abbrev M_X3_reads : MI := (⟨"AlgebraHouse$Parser", "reads", "(LAlgebraHouse$Text;[BI)Z"⟩, cX3_reads, 5, some .boolean)
/-- reads calls -/
theorem b_cVC {idx ci : Nat} (hd : decode M_X3_reads.2.1 pc = .ok (.invokevirtual idx, 3)) (mf : MF mi' false np) (hse : Cond.selects mi'.1.cls mi'.1 mi'.1 ∈ lw_all) (lk : LK M_X3_reads.1.cls idx mi'.1) (ha : lyA a = some (.inr ci)) (hC : (vwCl[ci]?).map (fun q => q.1) = some mi'.1.cls) (hM : CC f' mi' (vR a :: as) m Q' T') (hf : f' + 1 ≤ f) (hn : as.length = np) (hs : as.reverse ++ vR a :: st = stk) (hst : st.length ≤ 10) (hpc : ∀ m', T' m' → 41 ≤ pc ∧ pc < 45) (hlen : ls.length = 5) (hr : ∀ x, rs mi'.2.2.2 x = []) (kQ : ∀ x m', Q' x m' → B f M_X3_reads (pc + 3) ls st m' Q T) (kT : ∀ m', T' m' → B f M_X3_reads 48 ls [vR (-4)] m' Q T) : B f M_X3_reads pc ls stk m Q T :=
  a_callVC hd mf hse lk (at2 ha) hC hM hf hn hs hst q749 q750 (fun σ h => by obtain ⟨n, r, m'⟩ := σ; obtain ⟨h1, h2, h3⟩ := h; exact hpc m' h3) hlen (fun x σ h => by obtain ⟨n, r, m'⟩ := σ; obtain ⟨h1, h2, h3⟩ := h; cases h1; cases h2; rw [hr]; exact kQ x m' h3) (fun σ h => by obtain ⟨n, r, m'⟩ := σ; obtain ⟨h1, h2, h3⟩ := h; cases h1; cases h2; exact kT m' h3)
/-- reads is called -/
theorem b_cR {idx : Nat} (hd : decode mi.2.1 pc = .ok (.invokevirtual idx, 3)) (lk : LK mi.1.cls idx M_X3_reads.1) (hM : CCW f' M_X3_reads (vR 365 :: as) m Q' (fun _ => False)) (hf : f' + 1 ≤ f) (hn : as.length = 3) (hs : as.reverse ++ vR 365 :: st = stk) (hst : st.length ≤ 10) (hlen : ls.length = mi.2.2.1) (kQ : ∀ x m', Q' x m' → B f mi (pc + 3) ls (vI x :: st) m' Q T) : B f mi pc ls stk m Q T :=
  a_callVR (mi' := M_X3_reads) (ci := 3) hd q749 q221 (by decide) ⟨by decide, by decide⟩ (by decide +kernel) q747 q748 lk (at2 ly_365) rfl hM hf hn hs hst hlen (fun x σ h => by obtain ⟨n, r, m'⟩ := σ; obtain ⟨h1, h2, h3⟩ := h; cases h1; cases h2; exact kQ x m' h3) (fun σ h => h.2.2)
end READB
theorem dX3_reads_0 : decode cX3_reads 0 = .ok (.aload_n 0, 1) := by decide +kernel
theorem dX3_reads_1 : decode cX3_reads 1 = .ok (.aload_n 1, 1) := by decide +kernel
theorem dX3_reads_2 : decode cX3_reads 2 = .ok (.putfield 78, 3) := by decide +kernel
theorem dX3_reads_5 : decode cX3_reads 5 = .ok (.aload_n 0, 1) := by decide +kernel
theorem dX3_reads_6 : decode cX3_reads 6 = .ok (.getfield 78, 3) := by decide +kernel
theorem dX3_reads_9 : decode cX3_reads 9 = .ok (.invokevirtual 82, 3) := by decide +kernel
theorem dX3_reads_12 : decode cX3_reads 12 = .ok (.aload_n 0, 1) := by decide +kernel
theorem dX3_reads_13 : decode cX3_reads 13 = .ok (.getfield 12, 3) := by decide +kernel
theorem dX3_reads_16 : decode cX3_reads 16 = .ok (.aload_n 2, 1) := by decide +kernel
theorem dX3_reads_17 : decode cX3_reads 17 = .ok (.iload_n 3, 1) := by decide +kernel
theorem dX3_reads_18 : decode cX3_reads 18 = .ok (.invokevirtual 87, 3) := by decide +kernel
theorem dX3_reads_21 : decode cX3_reads 21 = .ok (.aload_n 0, 1) := by decide +kernel
theorem dX3_reads_22 : decode cX3_reads 22 = .ok (.iconst 0, 1) := by decide +kernel
theorem dX3_reads_23 : decode cX3_reads 23 = .ok (.putfield 33, 3) := by decide +kernel
theorem dX3_reads_26 : decode cX3_reads 26 = .ok (.aload_n 0, 1) := by decide +kernel
theorem dX3_reads_27 : decode cX3_reads 27 = .ok (.iconst 0, 1) := by decide +kernel
theorem dX3_reads_28 : decode cX3_reads 28 = .ok (.putfield 65, 3) := by decide +kernel
theorem dX3_reads_31 : decode cX3_reads 31 = .ok (.aload_n 0, 1) := by decide +kernel
theorem dX3_reads_32 : decode cX3_reads 32 = .ok (.iconst 0, 1) := by decide +kernel
theorem dX3_reads_33 : decode cX3_reads 33 = .ok (.putfield 18, 3) := by decide +kernel
theorem dX3_reads_36 : decode cX3_reads 36 = .ok (.aload_n 0, 1) := by decide +kernel
theorem dX3_reads_37 : decode cX3_reads 37 = .ok (.iconst (-1), 1) := by decide +kernel
theorem dX3_reads_38 : decode cX3_reads 38 = .ok (.putfield 22, 3) := by decide +kernel
theorem dX3_reads_41 : decode cX3_reads 41 = .ok (.aload_n 0, 1) := by decide +kernel
theorem dX3_reads_42 : decode cX3_reads 42 = .ok (.invokevirtual 91, 3) := by decide +kernel
theorem dX3_reads_45 : decode cX3_reads 45 = .ok (.goto 7, 3) := by decide +kernel
theorem dX3_reads_48 : decode cX3_reads 48 = .ok (.astore 4, 2) := by decide +kernel
theorem dX3_reads_50 : decode cX3_reads 50 = .ok (.iconst 0, 1) := by decide +kernel
theorem dX3_reads_51 : decode cX3_reads 51 = .ok (.ireturn, 1) := by decide +kernel
theorem dX3_reads_52 : decode cX3_reads 52 = .ok (.iconst 1, 1) := by decide +kernel
theorem dX3_reads_53 : decode cX3_reads 53 = .ok (.ireturn, 1) := by decide +kernel
/-! AlgebraHouse$Parser.reads -/
def P_X3_reads (x1 : Int) (x2 : Int) (x3 : Int) (m : MM) (Q : Int → MM → Prop) : Prop := ∀ m1 : MM, m1 = up m 365 1 x1 → P_X2_clear (m1 365 1) m1 (fun _ m2 => P_X4_read x2 x3 m2 (fun _ m3 => ∀ m4 : MM, m4 = up m3 365 2 0 → ∀ m5 : MM, m5 = up m4 365 3 0 → ∀ m6 : MM, m6 = up m5 365 4 0 → ∀ m7 : MM, m7 = up m6 365 5 (-1) → P_X3_line m7 (fun _ m8 => Q 1 m8) (fun m8 => Q 0 m8)) (fun _ => False))
theorem p_X3_reads {f : Nat} {Q : Int → MM → Prop} {T : MM → Prop} (hf : 330 ≤ f) (x1 : Int) (x2 : Int) (x3 : Int) (m : MM) (h : P_X3_reads x1 x2 x3 m Q) : CCW f M_X3_reads [vR 365, vR x1, vR x2, vI x3] m Q T := by
  refine CTW.of (plainFor_of_name (by decide)) rfl (Nat.le_of_ble_eq_true rfl) ?_
  show B f M_X3_reads 0 [vR 365, vR x1, vR x2, vI x3, vU] [] m Q T
  refine b_aload_n dX3_reads_0 rfl ?_
  refine b_aload_n dX3_reads_1 rfl ?_
  refine b_putM dX3_reads_2 fk_X3_78 (Or.inl ⟨_, rfl⟩) ly_365 (fun m1 em1 => ?_)
  have h := h m1 em1
  refine b_aload_n dX3_reads_5 rfl ?_
  refine b_getM dX3_reads_6 fk_X3_78 ly_365 ?_
  refine b_cVC (as := []) (st := []) dX3_reads_9 mf_X2_clear q753 lk_X3_82 (tx_ly0 h.1) rfl (p_X2_clear (f := 1) (T := fun _ => False) (Nat.le_refl _) _ _ h) (by omega) rfl rfl (Nat.le_of_ble_eq_true rfl) (fun _ h => h.elim) rfl (fun _ => rfl) (fun r1 m2 h => ?_) (fun _ h => h.elim)
  refine b_aload_n dX3_reads_12 rfl ?_
  refine b_getR dX3_reads_13 fk_X3_12 ly_365 gg_365_0 ?_
  refine b_aload_n dX3_reads_16 rfl ?_
  refine b_iload_n dX3_reads_17 rfl ?_
  refine b_cVC (as := [vR x2, vI x3]) (st := []) dX3_reads_18 mf_X4_read q757 lk_X3_87 ly_366 rfl (p_X4_read (f := 7) (Nat.le_refl _) _ _ _ h) (by omega) rfl rfl (Nat.le_of_ble_eq_true rfl) (fun _ h => h.elim) rfl (fun _ => rfl) (fun r2 m3 h => ?_) (fun _ h => h.elim)
  refine b_aload_n dX3_reads_21 rfl ?_
  refine b_iconst dX3_reads_22 ?_
  refine b_putI dX3_reads_23 fk_X3_33 ly_365 (fun m4 em4 => ?_)
  have h := h m4 em4
  refine b_aload_n dX3_reads_26 rfl ?_
  refine b_iconst dX3_reads_27 ?_
  refine b_putI dX3_reads_28 fk_X3_65 ly_365 (fun m5 em5 => ?_)
  have h := h m5 em5
  refine b_aload_n dX3_reads_31 rfl ?_
  refine b_iconst dX3_reads_32 ?_
  refine b_putI dX3_reads_33 fk_X3_18 ly_365 (fun m6 em6 => ?_)
  have h := h m6 em6
  refine b_aload_n dX3_reads_36 rfl ?_
  refine b_iconst dX3_reads_37 ?_
  refine b_putI dX3_reads_38 fk_X3_22 ly_365 (fun m7 em7 => ?_)
  have h := h m7 em7
  refine b_aload_n dX3_reads_41 rfl ?_
  refine b_cVC (as := []) (st := []) dX3_reads_42 mf_X3_line qs6 lk_X3_91 ly_365 rfl (p_X3_line (f := 329) (Nat.le_refl _) _ h) (by omega) rfl rfl (Nat.le_of_ble_eq_true rfl) (fun _ _ => by decide) rfl (fun _ => rfl) (fun r3 m8 h => ?_) (fun m8 h => ?_)
  · refine b_goto 52 dX3_reads_45 (by decide) ?_
    refine b_iconst dX3_reads_52 ?_
    exact b_zret dX3_reads_53 rfl (Or.inr rfl) h
  · refine b_astore (ls' := [vR 365, vR x1, vR x2, vI x3, vR (-4)]) dX3_reads_48 (Nat.le_of_ble_eq_true rfl) rfl ?_
    refine b_iconst dX3_reads_50 ?_
    exact b_zret dX3_reads_51 rfl (Or.inl rfl) h
theorem dX0_line_0 : decode cX0_line 0 = .ok (.iload_n 1, 1) := by decide +kernel
theorem dX0_line_1 : decode cX0_line 1 = .ok (.ifCond .lt 11, 3) := by decide +kernel
theorem dX0_line_4 : decode cX0_line 4 = .ok (.iload_n 1, 1) := by decide +kernel
theorem dX0_line_5 : decode cX0_line 5 = .ok (.aload_n 0, 1) := by decide +kernel
theorem dX0_line_6 : decode cX0_line 6 = .ok (.getfield 65, 3) := by decide +kernel
theorem dX0_line_9 : decode cX0_line 9 = .ok (.if_icmp .le 6, 3) := by decide +kernel
theorem dX0_line_12 : decode cX0_line 12 = .ok (.bipush (-100), 2) := by decide +kernel
theorem dX0_line_14 : decode cX0_line 14 = .ok (.ireturn, 1) := by decide +kernel
theorem dX0_line_15 : decode cX0_line 15 = .ok (.aload_n 0, 1) := by decide +kernel
theorem dX0_line_16 : decode cX0_line 16 = .ok (.iconst 0, 1) := by decide +kernel
theorem dX0_line_17 : decode cX0_line 17 = .ok (.putfield 65, 3) := by decide +kernel
theorem dX0_line_20 : decode cX0_line 20 = .ok (.aload_n 0, 1) := by decide +kernel
theorem dX0_line_21 : decode cX0_line 21 = .ok (.iconst 0, 1) := by decide +kernel
theorem dX0_line_22 : decode cX0_line 22 = .ok (.putfield 68, 3) := by decide +kernel
theorem dX0_line_25 : decode cX0_line 25 = .ok (.aload_n 0, 1) := by decide +kernel
theorem dX0_line_26 : decode cX0_line 26 = .ok (.iconst 0, 1) := by decide +kernel
theorem dX0_line_27 : decode cX0_line 27 = .ok (.putfield 71, 3) := by decide +kernel
theorem dX0_line_30 : decode cX0_line 30 = .ok (.aload_n 0, 1) := by decide +kernel
theorem dX0_line_31 : decode cX0_line 31 = .ok (.iconst 0, 1) := by decide +kernel
theorem dX0_line_32 : decode cX0_line 32 = .ok (.putfield 74, 3) := by decide +kernel
theorem dX0_line_35 : decode cX0_line 35 = .ok (.aload_n 0, 1) := by decide +kernel
theorem dX0_line_36 : decode cX0_line 36 = .ok (.iconst (-1), 1) := by decide +kernel
theorem dX0_line_37 : decode cX0_line 37 = .ok (.putfield 62, 3) := by decide +kernel
theorem dX0_line_40 : decode cX0_line 40 = .ok (.aload_n 0, 1) := by decide +kernel
theorem dX0_line_41 : decode cX0_line 41 = .ok (.getfield 16, 3) := by decide +kernel
theorem dX0_line_44 : decode cX0_line 44 = .ok (.getfield 77, 3) := by decide +kernel
theorem dX0_line_47 : decode cX0_line 47 = .ok (.aload_n 0, 1) := by decide +kernel
theorem dX0_line_48 : decode cX0_line 48 = .ok (.getfield 16, 3) := by decide +kernel
theorem dX0_line_51 : decode cX0_line 51 = .ok (.getfield 81, 3) := by decide +kernel
theorem dX0_line_54 : decode cX0_line 54 = .ok (.aaload, 1) := by decide +kernel
theorem dX0_line_55 : decode cX0_line 55 = .ok (.astore_n 2, 1) := by decide +kernel
theorem dX0_line_56 : decode cX0_line 56 = .ok (.aload_n 0, 1) := by decide +kernel
theorem dX0_line_57 : decode cX0_line 57 = .ok (.getfield 23, 3) := by decide +kernel
theorem dX0_line_60 : decode cX0_line 60 = .ok (.aload_n 2, 1) := by decide +kernel
theorem dX0_line_61 : decode cX0_line 61 = .ok (.aload_n 0, 1) := by decide +kernel
theorem dX0_line_62 : decode cX0_line 62 = .ok (.getfield 9, 3) := by decide +kernel
theorem dX0_line_65 : decode cX0_line 65 = .ok (.iload_n 1, 1) := by decide +kernel
theorem dX0_line_66 : decode cX0_line 66 = .ok (.invokevirtual 84, 3) := by decide +kernel
theorem dX0_line_69 : decode cX0_line 69 = .ok (.istore_n 3, 1) := by decide +kernel
theorem dX0_line_70 : decode cX0_line 70 = .ok (.aload_n 0, 1) := by decide +kernel
theorem dX0_line_71 : decode cX0_line 71 = .ok (.aload_n 0, 1) := by decide +kernel
theorem dX0_line_72 : decode cX0_line 72 = .ok (.getfield 23, 3) := by decide +kernel
theorem dX0_line_75 : decode cX0_line 75 = .ok (.getfield 88, 3) := by decide +kernel
theorem dX0_line_78 : decode cX0_line 78 = .ok (.putfield 91, 3) := by decide +kernel
theorem dX0_line_81 : decode cX0_line 81 = .ok (.aload_n 0, 1) := by decide +kernel
theorem dX0_line_82 : decode cX0_line 82 = .ok (.aload_n 0, 1) := by decide +kernel
theorem dX0_line_83 : decode cX0_line 83 = .ok (.getfield 23, 3) := by decide +kernel
theorem dX0_line_86 : decode cX0_line 86 = .ok (.getfield 92, 3) := by decide +kernel
theorem dX0_line_89 : decode cX0_line 89 = .ok (.putfield 58, 3) := by decide +kernel
theorem dX0_line_92 : decode cX0_line 92 = .ok (.iload_n 3, 1) := by decide +kernel
theorem dX0_line_93 : decode cX0_line 93 = .ok (.ifCond .eq 36, 3) := by decide +kernel
theorem dX0_line_96 : decode cX0_line 96 = .ok (.aload_n 0, 1) := by decide +kernel
theorem dX0_line_97 : decode cX0_line 97 = .ok (.getfield 32, 3) := by decide +kernel
theorem dX0_line_100 : decode cX0_line 100 = .ok (.aload_n 2, 1) := by decide +kernel
theorem dX0_line_101 : decode cX0_line 101 = .ok (.invokevirtual 93, 3) := by decide +kernel
theorem dX0_line_104 : decode cX0_line 104 = .ok (.ifCond .ne 25, 3) := by decide +kernel
theorem dX0_line_107 : decode cX0_line 107 = .ok (.aload_n 0, 1) := by decide +kernel
theorem dX0_line_108 : decode cX0_line 108 = .ok (.aload_n 0, 1) := by decide +kernel
theorem dX0_line_109 : decode cX0_line 109 = .ok (.getfield 32, 3) := by decide +kernel
theorem dX0_line_112 : decode cX0_line 112 = .ok (.getfield 97, 3) := by decide +kernel
theorem dX0_line_115 : decode cX0_line 115 = .ok (.putfield 91, 3) := by decide +kernel
theorem dX0_line_118 : decode cX0_line 118 = .ok (.aload_n 0, 1) := by decide +kernel
theorem dX0_line_119 : decode cX0_line 119 = .ok (.aload_n 0, 1) := by decide +kernel
theorem dX0_line_120 : decode cX0_line 120 = .ok (.getfield 32, 3) := by decide +kernel
theorem dX0_line_123 : decode cX0_line 123 = .ok (.getfield 98, 3) := by decide +kernel
theorem dX0_line_126 : decode cX0_line 126 = .ok (.putfield 58, 3) := by decide +kernel
theorem dX0_line_129 : decode cX0_line 129 = .ok (.aload_n 0, 1) := by decide +kernel
theorem dX0_line_130 : decode cX0_line 130 = .ok (.getfield 91, 3) := by decide +kernel
theorem dX0_line_133 : decode cX0_line 133 = .ok (.ifCond .eq 5, 3) := by decide +kernel
theorem dX0_line_136 : decode cX0_line 136 = .ok (.iconst 0, 1) := by decide +kernel
theorem dX0_line_137 : decode cX0_line 137 = .ok (.ireturn, 1) := by decide +kernel
theorem dX0_line_138 : decode cX0_line 138 = .ok (.aload_n 2, 1) := by decide +kernel
theorem dX0_line_139 : decode cX0_line 139 = .ok (.getfield 99, 3) := by decide +kernel
theorem dX0_line_142 : decode cX0_line 142 = .ok (.iconst 2, 1) := by decide +kernel
theorem dX0_line_143 : decode cX0_line 143 = .ok (.if_icmp .ne 18, 3) := by decide +kernel
theorem dX0_line_146 : decode cX0_line 146 = .ok (.aload_n 0, 1) := by decide +kernel
theorem dX0_line_147 : decode cX0_line 147 = .ok (.getfield 16, 3) := by decide +kernel
theorem dX0_line_150 : decode cX0_line 150 = .ok (.dup, 1) := by decide +kernel
theorem dX0_line_151 : decode cX0_line 151 = .ok (.getfield 81, 3) := by decide +kernel
theorem dX0_line_154 : decode cX0_line 154 = .ok (.iconst 1, 1) := by decide +kernel
theorem dX0_line_155 : decode cX0_line 155 = .ok (.iadd, 1) := by decide +kernel
theorem dX0_line_156 : decode cX0_line 156 = .ok (.putfield 81, 3) := by decide +kernel
theorem dX0_line_159 : decode cX0_line 159 = .ok (.iconst 2, 1) := by decide +kernel
theorem dX0_line_160 : decode cX0_line 160 = .ok (.ireturn, 1) := by decide +kernel
theorem dX0_line_161 : decode cX0_line 161 = .ok (.aload_n 0, 1) := by decide +kernel
theorem dX0_line_162 : decode cX0_line 162 = .ok (.aload_n 0, 1) := by decide +kernel
theorem dX0_line_163 : decode cX0_line 163 = .ok (.getfield 51, 3) := by decide +kernel
theorem dX0_line_166 : decode cX0_line 166 = .ok (.aload_n 2, 1) := by decide +kernel
theorem dX0_line_167 : decode cX0_line 167 = .ok (.invokevirtual 104, 3) := by decide +kernel
theorem dX0_line_170 : decode cX0_line 170 = .ok (.putfield 74, 3) := by decide +kernel
theorem dX0_line_173 : decode cX0_line 173 = .ok (.aload_n 0, 1) := by decide +kernel
theorem dX0_line_174 : decode cX0_line 174 = .ok (.aload_n 0, 1) := by decide +kernel
theorem dX0_line_175 : decode cX0_line 175 = .ok (.getfield 51, 3) := by decide +kernel
theorem dX0_line_178 : decode cX0_line 178 = .ok (.getfield 108, 3) := by decide +kernel
theorem dX0_line_181 : decode cX0_line 181 = .ok (.putfield 68, 3) := by decide +kernel
theorem dX0_line_184 : decode cX0_line 184 = .ok (.aload_n 0, 1) := by decide +kernel
theorem dX0_line_185 : decode cX0_line 185 = .ok (.aload_n 0, 1) := by decide +kernel
theorem dX0_line_186 : decode cX0_line 186 = .ok (.getfield 51, 3) := by decide +kernel
theorem dX0_line_189 : decode cX0_line 189 = .ok (.getfield 109, 3) := by decide +kernel
theorem dX0_line_192 : decode cX0_line 192 = .ok (.putfield 71, 3) := by decide +kernel
theorem dX0_line_195 : decode cX0_line 195 = .ok (.aload_n 0, 1) := by decide +kernel
theorem dX0_line_196 : decode cX0_line 196 = .ok (.getfield 74, 3) := by decide +kernel
theorem dX0_line_199 : decode cX0_line 199 = .ok (.ifCond .eq 9, 3) := by decide +kernel
theorem dX0_line_202 : decode cX0_line 202 = .ok (.aload_n 0, 1) := by decide +kernel
theorem dX0_line_203 : decode cX0_line 203 = .ok (.getfield 74, 3) := by decide +kernel
theorem dX0_line_206 : decode cX0_line 206 = .ok (.ineg, 1) := by decide +kernel
theorem dX0_line_207 : decode cX0_line 207 = .ok (.ireturn, 1) := by decide +kernel
theorem dX0_line_208 : decode cX0_line 208 = .ok (.aload_n 0, 1) := by decide +kernel
theorem dX0_line_209 : decode cX0_line 209 = .ok (.aload_n 2, 1) := by decide +kernel
theorem dX0_line_210 : decode cX0_line 210 = .ok (.aload_n 2, 1) := by decide +kernel
theorem dX0_line_211 : decode cX0_line 211 = .ok (.getfield 112, 3) := by decide +kernel
theorem dX0_line_214 : decode cX0_line 214 = .ok (.aload_n 2, 1) := by decide +kernel
theorem dX0_line_215 : decode cX0_line 215 = .ok (.getfield 115, 3) := by decide +kernel
theorem dX0_line_218 : decode cX0_line 218 = .ok (.iaload, 1) := by decide +kernel
theorem dX0_line_219 : decode cX0_line 219 = .ok (.invokevirtual 118, 3) := by decide +kernel
theorem dX0_line_222 : decode cX0_line 222 = .ok (.iconst 1, 1) := by decide +kernel
theorem dX0_line_223 : decode cX0_line 223 = .ok (.ireturn, 1) := by decide +kernel
/-! AlgebraHouse.line(I)I -/
def P_X0_line_129 (Q : Int → MM → Prop) (x2 : Int) (m : MM) : Prop := (RI (m 1 9)) ∧ (if (m 1 9) = 0 then (isTx x2) ∧ (RI (m x2 1)) ∧ (if (m x2 1) = 2 then ∀ m6 : MM, m6 = up m 3 1 ((m 3 1) + 1) → Q 2 m6 else P_X6_run x2 m (fun r1 m1 => ∀ m2 : MM, m2 = up m1 1 13 r1 → ∀ m3 : MM, m3 = up m2 1 11 (m2 376 15) → ∀ m4 : MM, m4 = up m3 1 12 (m3 376 16) → (RI (m4 1 13)) ∧ (if (m4 1 13) = 0 then (0 ≤ (m4 x2 2) ∧ (m4 x2 2) < 160) ∧ P_X0_keep x2 (m4 (x2 + 6) (m4 x2 2)) m4 (fun r2 m5 => Q 1 m5) else Q (-(m4 1 13)) m4))) else Q 0 m)
def P_X0_line (x1 : Int) (m : MM) (Q : Int → MM → Prop) : Prop := (RI x1) ∧ (if x1 < 0 then Q (-100) m else (RI (m 1 1)) ∧ (if x1 ≤ (m 1 1) then ∀ m1 : MM, m1 = up m 1 1 0 → ∀ m2 : MM, m2 = up m1 1 11 0 → ∀ m3 : MM, m3 = up m2 1 12 0 → ∀ m4 : MM, m4 = up m3 1 13 0 → ∀ m5 : MM, m5 = up m4 1 14 (-1) → (0 ≤ (m5 3 1) ∧ (m5 3 1) < 21) ∧ P_X3_reads (8 + 17 * (m5 3 1)) 2 x1 m5 (fun r1 m6 => ∀ m7 : MM, m7 = up m6 1 9 (m6 365 4) → ∀ m8 : MM, m8 = up m7 1 10 (m7 365 5) → (RI r1) ∧ (if r1 = 0 then P_X0_line_129 Q (8 + 17 * (m5 3 1)) m8 else P_X5_looks (8 + 17 * (m5 3 1)) m8 (fun r2 m9 => (RI r2) ∧ (if r2 = 0 then ∀ m10 : MM, m10 = up m9 1 9 (m9 372 5) → ∀ m11 : MM, m11 = up m10 1 10 (m10 372 6) → P_X0_line_129 Q (8 + 17 * (m5 3 1)) m11 else P_X0_line_129 Q (8 + 17 * (m5 3 1)) m9)))) else Q (-100) m))
theorem pl_X0_line_129 {f : Nat} {Q : Int → MM → Prop} {T : MM → Prop} (hf : 689 ≤ f) : ∀ (x2 : Int) (m : MM), P_X0_line_129 Q x2 m → B f M_X0_line 129 [vR 1, vU, vR x2, vU] [] m Q T := by
  intro x2 m h
  have h : (RI (m 1 9)) ∧ (if (m 1 9) = 0 then (isTx x2) ∧ (RI (m x2 1)) ∧ (if (m x2 1) = 2 then ∀ m6 : MM, m6 = up m 3 1 ((m 3 1) + 1) → Q 2 m6 else P_X6_run x2 m (fun r1 m1 => ∀ m2 : MM, m2 = up m1 1 13 r1 → ∀ m3 : MM, m3 = up m2 1 11 (m2 376 15) → ∀ m4 : MM, m4 = up m3 1 12 (m3 376 16) → (RI (m4 1 13)) ∧ (if (m4 1 13) = 0 then (0 ≤ (m4 x2 2) ∧ (m4 x2 2) < 160) ∧ P_X0_keep x2 (m4 (x2 + 6) (m4 x2 2)) m4 (fun r2 m5 => Q 1 m5) else Q (-(m4 1 13)) m4))) else Q 0 m) := h
  refine b_aload_n dX0_line_129 rfl ?_
  refine b_getI dX0_line_130 fk_X0_91 ly_1 ?_
  obtain ⟨g1, h⟩ := h
  refine b_if_eq 138 dX0_line_133 g1 (by decide) (fun c1 => ?_) (fun c1 => ?_)
  · have h := ifT c1 h
    refine b_aload_n dX0_line_138 rfl ?_
    obtain ⟨g2, h⟩ := h
    refine b_getI dX0_line_139 fk_X0_99 (tx_ly0 g2) ?_
    refine b_iconst dX0_line_142 ?_
    obtain ⟨g3, h⟩ := h
    refine b_icmp_ne 161 dX0_line_143 g3 (by decide) (by decide) (fun c2 => ?_) (fun c2 => ?_)
    · have h := ifF c2 h
      refine b_aload_n dX0_line_161 rfl ?_
      refine b_aload_n dX0_line_162 rfl ?_
      refine b_getR dX0_line_163 fk_X0_51 ly_1 gg_1_7 ?_
      refine b_aload_n dX0_line_166 rfl ?_
      refine b_cVi (as := [vR x2]) (st := [vR 1]) dX0_line_167 mf_X6_run q1223 lk_X0_104 ly_376 rfl (p_X6_run (f := 688) (Nat.le_refl _) _ _ h) (by omega) rfl rfl (Nat.le_of_ble_eq_true rfl) (by decide) rfl (fun _ => rfl) (fun r1 m1 h => ?_) (fun _ h => h)
      refine b_putI dX0_line_170 fk_X0_74 ly_1 (fun m2 em2 => ?_)
      have h := h m2 em2
      refine b_aload_n dX0_line_173 rfl ?_
      refine b_aload_n dX0_line_174 rfl ?_
      refine b_getR dX0_line_175 fk_X0_51 ly_1 gg_1_7 ?_
      refine b_getI dX0_line_178 fk_X0_108 ly_376 ?_
      refine b_putI dX0_line_181 fk_X0_68 ly_1 (fun m3 em3 => ?_)
      have h := h m3 em3
      refine b_aload_n dX0_line_184 rfl ?_
      refine b_aload_n dX0_line_185 rfl ?_
      refine b_getR dX0_line_186 fk_X0_51 ly_1 gg_1_7 ?_
      refine b_getI dX0_line_189 fk_X0_109 ly_376 ?_
      refine b_putI dX0_line_192 fk_X0_71 ly_1 (fun m4 em4 => ?_)
      have h := h m4 em4
      refine b_aload_n dX0_line_195 rfl ?_
      refine b_getI dX0_line_196 fk_X0_74 ly_1 ?_
      obtain ⟨g4, h⟩ := h
      refine b_if_eq 208 dX0_line_199 g4 (by decide) (fun c3 => ?_) (fun c3 => ?_)
      · have h := ifT c3 h
        refine b_aload_n dX0_line_208 rfl ?_
        refine b_aload_n dX0_line_209 rfl ?_
        refine b_aload_n dX0_line_210 rfl ?_
        refine b_getR dX0_line_211 fk_X0_112 (tx_ly0 g2) (tx_gg12 g2) ?_
        refine b_aload_n dX0_line_214 rfl ?_
        refine b_getI dX0_line_215 fk_X0_115 (tx_ly0 g2) ?_
        obtain ⟨g5, h⟩ := h
        refine b_iald dX0_line_218 (tx_ly6 g2) g5 ?_
        refine b_cVv (as := [vR x2, vI (m4 (x2 + 6) (m4 x2 2))]) (st := []) dX0_line_219 mf_X0_keep qs90 lk_X0_118 ly_1 rfl (p_X0_keep (f := 4) (Nat.le_refl _) _ _ _ h) (by omega) rfl rfl (Nat.le_of_ble_eq_true rfl) (by decide) rfl (fun _ => rfl) (fun r2 m5 h => ?_) (fun _ h => h)
        refine b_iconst dX0_line_222 ?_
        exact b_iret dX0_line_223 rfl h
      · have h := ifF c3 h
        refine b_aload_n dX0_line_202 rfl ?_
        refine b_getI dX0_line_203 fk_X0_74 ly_1 ?_
        refine b_ineg dX0_line_206 ?_
        exact b_iret dX0_line_207 rfl h
    · have h := ifT (Decidable.of_not_not c2) h
      refine b_aload_n dX0_line_146 rfl ?_
      refine b_getR dX0_line_147 fk_X0_16 ly_1 gg_1_2 ?_
      refine b_dup dX0_line_150 rfl ?_
      refine b_getI dX0_line_151 fk_X0_81 ly_3 ?_
      refine b_iconst dX0_line_154 ?_
      refine b_iadd dX0_line_155 ?_
      refine b_putI dX0_line_156 fk_X0_81 ly_3 (fun m6 em6 => ?_)
      have h := h m6 em6
      refine b_iconst dX0_line_159 ?_
      exact b_iret dX0_line_160 rfl h
  · have h := ifF c1 h
    refine b_iconst dX0_line_136 ?_
    exact b_iret dX0_line_137 rfl h
theorem p_X0_line {f : Nat} {Q : Int → MM → Prop} {T : MM → Prop} (hf : 689 ≤ f) (x1 : Int) (m : MM) (h : P_X0_line x1 m Q) : CC f M_X0_line [vR 1, vI x1] m Q T := by
  refine CC.of (plainFor_of_name (by decide)) (Nat.le_of_ble_eq_true rfl) (ls := [vR 1, vI x1, vU, vU]) rfl ?_
  have h : (RI x1) ∧ (if x1 < 0 then Q (-100) m else (RI (m 1 1)) ∧ (if x1 ≤ (m 1 1) then ∀ m1 : MM, m1 = up m 1 1 0 → ∀ m2 : MM, m2 = up m1 1 11 0 → ∀ m3 : MM, m3 = up m2 1 12 0 → ∀ m4 : MM, m4 = up m3 1 13 0 → ∀ m5 : MM, m5 = up m4 1 14 (-1) → (0 ≤ (m5 3 1) ∧ (m5 3 1) < 21) ∧ P_X3_reads (8 + 17 * (m5 3 1)) 2 x1 m5 (fun r1 m6 => ∀ m7 : MM, m7 = up m6 1 9 (m6 365 4) → ∀ m8 : MM, m8 = up m7 1 10 (m7 365 5) → (RI r1) ∧ (if r1 = 0 then P_X0_line_129 Q (8 + 17 * (m5 3 1)) m8 else P_X5_looks (8 + 17 * (m5 3 1)) m8 (fun r2 m9 => (RI r2) ∧ (if r2 = 0 then ∀ m10 : MM, m10 = up m9 1 9 (m9 372 5) → ∀ m11 : MM, m11 = up m10 1 10 (m10 372 6) → P_X0_line_129 Q (8 + 17 * (m5 3 1)) m11 else P_X0_line_129 Q (8 + 17 * (m5 3 1)) m9)))) else Q (-100) m)) := h
  refine b_iload_n dX0_line_0 rfl ?_
  obtain ⟨g1, h⟩ := h
  refine b_if_lt 12 dX0_line_1 g1 (by decide) (fun c1 => ?_) (fun c1 => ?_)
  · have h := ifT c1 h
    refine b_bipush dX0_line_12 (by decide) ?_
    exact b_iret dX0_line_14 rfl h
  · have h := ifF c1 h
    refine b_iload_n dX0_line_4 rfl ?_
    refine b_aload_n dX0_line_5 rfl ?_
    refine b_getI dX0_line_6 fk_X0_65 ly_1 ?_
    obtain ⟨g2, h⟩ := h
    refine b_icmp_le 15 dX0_line_9 g1 g2 (by decide) (fun c2 => ?_) (fun c2 => ?_)
    · have h := ifT c2 h
      refine b_aload_n dX0_line_15 rfl ?_
      refine b_iconst dX0_line_16 ?_
      refine b_putI dX0_line_17 fk_X0_65 ly_1 (fun m1 em1 => ?_)
      have h := h m1 em1
      refine b_aload_n dX0_line_20 rfl ?_
      refine b_iconst dX0_line_21 ?_
      refine b_putI dX0_line_22 fk_X0_68 ly_1 (fun m2 em2 => ?_)
      have h := h m2 em2
      refine b_aload_n dX0_line_25 rfl ?_
      refine b_iconst dX0_line_26 ?_
      refine b_putI dX0_line_27 fk_X0_71 ly_1 (fun m3 em3 => ?_)
      have h := h m3 em3
      refine b_aload_n dX0_line_30 rfl ?_
      refine b_iconst dX0_line_31 ?_
      refine b_putI dX0_line_32 fk_X0_74 ly_1 (fun m4 em4 => ?_)
      have h := h m4 em4
      refine b_aload_n dX0_line_35 rfl ?_
      refine b_iconst dX0_line_36 ?_
      refine b_putI dX0_line_37 fk_X0_62 ly_1 (fun m5 em5 => ?_)
      have h := h m5 em5
      refine b_aload_n dX0_line_40 rfl ?_
      refine b_getR dX0_line_41 fk_X0_16 ly_1 gg_1_2 ?_
      refine b_getR dX0_line_44 fk_X0_77 ly_3 gg_3_0 ?_
      refine b_aload_n dX0_line_47 rfl ?_
      refine b_getR dX0_line_48 fk_X0_16 ly_1 gg_1_2 ?_
      refine b_getI dX0_line_51 fk_X0_81 ly_3 ?_
      obtain ⟨g3, h⟩ := h
      refine b_aald dX0_line_54 ly_4 (Or.inl rfl) g3 (gg_told _) ?_
      refine b_astore_n (ls' := [vR 1, vI x1, vR (8 + 17 * (m5 3 1)), vU]) dX0_line_55 (Nat.le_of_ble_eq_true rfl) rfl ?_
      refine b_aload_n dX0_line_56 rfl ?_
      refine b_getR dX0_line_57 fk_X0_23 ly_1 gg_1_3 ?_
      refine b_aload_n dX0_line_60 rfl ?_
      refine b_aload_n dX0_line_61 rfl ?_
      refine b_getR dX0_line_62 fk_X0_9 ly_1 gg_1_0 ?_
      refine b_iload_n dX0_line_65 rfl ?_
      refine b_cR (as := [vR (8 + 17 * (m5 3 1)), vR 2, vI x1]) (st := []) dX0_line_66 lk_X0_84 (p_X3_reads (f := 330) (Nat.le_refl _) _ _ _ _ h) (by omega) rfl rfl (Nat.le_of_ble_eq_true rfl) rfl (fun r1 m6 h => ?_)
      refine b_istore_n (ls' := [vR 1, vI x1, vR (8 + 17 * (m5 3 1)), vI r1]) dX0_line_69 (Nat.le_of_ble_eq_true rfl) rfl ?_
      refine b_aload_n dX0_line_70 rfl ?_
      refine b_aload_n dX0_line_71 rfl ?_
      refine b_getR dX0_line_72 fk_X0_23 ly_1 gg_1_3 ?_
      refine b_getI dX0_line_75 fk_X0_88 ly_365 ?_
      refine b_putI dX0_line_78 fk_X0_91 ly_1 (fun m7 em7 => ?_)
      have h := h m7 em7
      refine b_aload_n dX0_line_81 rfl ?_
      refine b_aload_n dX0_line_82 rfl ?_
      refine b_getR dX0_line_83 fk_X0_23 ly_1 gg_1_3 ?_
      refine b_getI dX0_line_86 fk_X0_92 ly_365 ?_
      refine b_putI dX0_line_89 fk_X0_58 ly_1 (fun m8 em8 => ?_)
      have h := h m8 em8
      refine b_iload_n dX0_line_92 rfl ?_
      obtain ⟨g4, h⟩ := h
      refine b_if_eq 129 dX0_line_93 g4 (by decide) (fun c3 => ?_) (fun c3 => ?_)
      · have h := ifT c3 h
        refine b_fgt [true, false, true, false] (ls' := [vR 1, vU, vR (8 + 17 * (m5 3 1)), vU]) rfl rfl ?_
        exact pl_X0_line_129 hf _ _ h
      · have h := ifF c3 h
        refine b_aload_n dX0_line_96 rfl ?_
        refine b_getR dX0_line_97 fk_X0_32 ly_1 gg_1_4 ?_
        refine b_aload_n dX0_line_100 rfl ?_
        refine b_cVi (as := [vR (8 + 17 * (m5 3 1))]) (st := []) dX0_line_101 mf_X5_looks q1034 lk_X0_93 ly_372 rfl (p_X5_looks (f := 687) (Nat.le_refl _) _ _ h) (by omega) rfl rfl (Nat.le_of_ble_eq_true rfl) (by decide) rfl (fun _ => rfl) (fun r2 m9 h => ?_) (fun _ h => h)
        obtain ⟨g5, h⟩ := h
        refine b_if_ne 129 dX0_line_104 g5 (by decide) (fun c4 => ?_) (fun c4 => ?_)
        · have h := ifF c4 h
          refine b_fgt [true, false, true, false] (ls' := [vR 1, vU, vR (8 + 17 * (m5 3 1)), vU]) rfl rfl ?_
          exact pl_X0_line_129 hf _ _ h
        · have h := ifT (Decidable.of_not_not c4) h
          refine b_aload_n dX0_line_107 rfl ?_
          refine b_aload_n dX0_line_108 rfl ?_
          refine b_getR dX0_line_109 fk_X0_32 ly_1 gg_1_4 ?_
          refine b_getI dX0_line_112 fk_X0_97 ly_372 ?_
          refine b_putI dX0_line_115 fk_X0_91 ly_1 (fun m10 em10 => ?_)
          have h := h m10 em10
          refine b_aload_n dX0_line_118 rfl ?_
          refine b_aload_n dX0_line_119 rfl ?_
          refine b_getR dX0_line_120 fk_X0_32 ly_1 gg_1_4 ?_
          refine b_getI dX0_line_123 fk_X0_98 ly_372 ?_
          refine b_putI dX0_line_126 fk_X0_58 ly_1 (fun m11 em11 => ?_)
          have h := h m11 em11
          refine b_fgt [true, false, true, false] (ls' := [vR 1, vU, vR (8 + 17 * (m5 3 1)), vU]) rfl rfl ?_
          exact pl_X0_line_129 hf _ _ h
    · have h := ifF c2 h
      refine b_bipush dX0_line_12 (by decide) ?_
      exact b_iret dX0_line_14 rfl h
