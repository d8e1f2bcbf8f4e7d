set_option maxRecDepth 100000
def vLaw (xs : Nat → Int32) (L : Nat) (mc ms : Nat) (i0 : Int) (G : ZG) (k0 n0 : Nat) : Prop := zl4 (fun (P23 : Int → ZG → Nat → Nat → Prop) (a23_4 : Int) (K23 : ZG) (kc ks : Nat) => zbr (w32 ((L : Int) - 6) < a23_4) (True) (zsL xs L a23_4 fun (x1 : Int) => zjn (fun (H2081 : ZG) (kc ks : Nat) => zlt1 (w32 (a23_4 + 6)) fun (x2 : Int) => P23 x2 H2081 kc ks) fun J2081 => zbr (bAnd x1 31 = 0) (zsL xs L (w32 (a23_4 + 1)) fun (x3 : Int) => zsL xs L (w32 (a23_4 + 2)) fun (x4 : Int) => zsL xs L (w32 (a23_4 + 3)) fun (x5 : Int) => zsL xs L (w32 (a23_4 + 4)) fun (x6 : Int) => zsL xs L (w32 (a23_4 + 5)) fun (x7 : Int) => (kc + 5 ≤ mc ∧ ks + 121 ≤ ms) ∧ vX0_constructor x3 x4 x5 x6 x7 K23 fun (x8 : Int) (G1 : ZG) => zsL xs L (w32 (a23_4 + 1)) fun (x9 : Int) => zsL xs L (w32 (a23_4 + 2)) fun (x10 : Int) => zsL xs L (w32 (a23_4 + 3)) fun (x11 : Int) => zsL xs L (w32 (a23_4 + 4)) fun (x12 : Int) => zsL xs L (w32 (a23_4 + 5)) fun (x13 : Int) => vX6_constructor x9 x10 x11 x12 x13 G1 fun (x14 : Int) (G2 : ZG) => vX6_thrown G2 fun (x15 : Int) => zbr (x15 = x8) (zjn (fun (_ : Unit) => J2081 G2 (kc + 5) (ks + 121)) fun J265 => zbr (x8 ≠ 0) (J265 ()) (zgF G2 6 0 fun (x16 : Int) => zbr (zcmp x16 x14 = 0) (J265 ()) (False))) (False)) (zbr (bAnd x1 31 = 1) (zsL xs L (w32 (a23_4 + 1)) fun (x17 : Int) => (kc + 5 ≤ mc ∧ ks + 116 ≤ ms) ∧ vX0_num x17 K23 fun (x18 : Int) (G3 : ZG) => zsL xs L (w32 (a23_4 + 1)) fun (x19 : Int) => vX6_num x19 G3 fun (x20 : Int) (G4 : ZG) => vX6_thrown G4 fun (x21 : Int) => zbr (x21 = x18) (zjn (fun (_ : Unit) => J2081 G4 (kc + 5) (ks + 116)) fun J321 => zbr (x18 ≠ 0) (J321 ()) (zgF G4 6 0 fun (x22 : Int) => zbr (zcmp x22 x20 = 0) (J321 ()) (False))) (False)) (zbr (bAnd x1 31 = 2) (zsL xs L (w32 (a23_4 + 1)) fun (x23 : Int) => zsL xs L (w32 (a23_4 + 2)) fun (x24 : Int) => zsL xs L (w32 (a23_4 + 3)) fun (x25 : Int) => zsL xs L (w32 (a23_4 + 4)) fun (x26 : Int) => (kc + 5 ≤ mc ∧ ks + 119 ≤ ms) ∧ vX0_seq x23 x24 x25 x26 K23 fun (x27 : Int) (G5 : ZG) => zsL xs L (w32 (a23_4 + 1)) fun (x28 : Int) => zsL xs L (w32 (a23_4 + 2)) fun (x29 : Int) => zsL xs L (w32 (a23_4 + 3)) fun (x30 : Int) => zsL xs L (w32 (a23_4 + 4)) fun (x31 : Int) => vX6_seq x28 x29 x30 x31 G5 fun (x32 : Int) (G6 : ZG) => vX6_thrown G6 fun (x33 : Int) => zbr (x33 = x27) (zjn (fun (_ : Unit) => J2081 G6 (kc + 5) (ks + 119)) fun J413 => zbr (x27 ≠ 0) (J413 ()) (zgF G6 6 0 fun (x34 : Int) => zbr (zcmp x34 x32 = 0) (J413 ()) (False))) (False)) (zbr (bAnd x1 31 = 3) (zsL xs L (w32 (a23_4 + 1)) fun (x35 : Int) => zsL xs L (w32 (a23_4 + 2)) fun (x36 : Int) => zsL xs L (w32 (a23_4 + 3)) fun (x37 : Int) => zsL xs L (w32 (a23_4 + 4)) fun (x38 : Int) => zsL xs L (w32 (a23_4 + 5)) fun (x39 : Int) => (kc + 60 ≤ mc ∧ ks + 600 ≤ ms) ∧ vX0_data x35 x36 x37 x38 x39 K23 fun (x40 : Int) (G7 : ZG) => zsL xs L (w32 (a23_4 + 1)) fun (x41 : Int) => zsL xs L (w32 (a23_4 + 2)) fun (x42 : Int) => zsL xs L (w32 (a23_4 + 3)) fun (x43 : Int) => zsL xs L (w32 (a23_4 + 4)) fun (x44 : Int) => zsL xs L (w32 (a23_4 + 5)) fun (x45 : Int) => vX6_data x41 x42 x43 x44 x45 G7 fun (x46 : Int) (G8 : ZG) => vX6_thrown G8 fun (x47 : Int) => zbr (x47 = x40) (zjn (fun (_ : Unit) => J2081 G8 (kc + 60) (ks + 600)) fun J517 => zbr (x40 ≠ 0) (J517 ()) (zgF G8 6 0 fun (x48 : Int) => zbr (zcmp x48 x46 = 0) (J517 ()) (False))) (False)) (zbr (bAnd x1 31 = 4) ((kc + 5 ≤ mc ∧ ks + 119 ≤ ms) ∧ vX0_any K23 fun (x49 : Int) (G9 : ZG) => vX6_any G9 fun (x50 : Int) (G10 : ZG) => vX6_thrown G10 fun (x51 : Int) => zbr (x51 = x49) (zjn (fun (_ : Unit) => J2081 G10 (kc + 5) (ks + 119)) fun J561 => zbr (x49 ≠ 0) (J561 ()) (zgF G10 6 0 fun (x52 : Int) => zbr (zcmp x52 x50 = 0) (J561 ()) (False))) (False)) (zbr (bAnd x1 31 = 5) (zsL xs L (w32 (a23_4 + 1)) fun (x53 : Int) => zsL xs L (w32 (a23_4 + 2)) fun (x54 : Int) => (kc + 8 ≤ mc ∧ ks + 139 ≤ ms) ∧ vX0_name x53 x54 K23 fun (x55 : Int) (G11 : ZG) => zsL xs L (w32 (a23_4 + 1)) fun (x56 : Int) => zsL xs L (w32 (a23_4 + 2)) fun (x57 : Int) => vX6_name x56 x57 G11 fun (x58 : Int) (G12 : ZG) => vX6_thrown G12 fun (x59 : Int) => zbr (x59 = x55) (zjn (fun (_ : Unit) => J2081 G12 (kc + 8) (ks + 139)) fun J629 => zbr (x55 ≠ 0) (J629 ()) (zgF G12 6 0 fun (x60 : Int) => zbr (zcmp x60 x58 = 0) (J629 ()) (False))) (False)) (zbr (bAnd x1 31 = 6) (zsL xs L (w32 (a23_4 + 1)) fun (x61 : Int) => zsL xs L (w32 (a23_4 + 2)) fun (x62 : Int) => (kc + 6 ≤ mc ∧ ks + 127 ≤ ms) ∧ vX0_range x61 x62 K23 fun (x63 : Int) (G13 : ZG) => zsL xs L (w32 (a23_4 + 1)) fun (x64 : Int) => zsL xs L (w32 (a23_4 + 2)) fun (x65 : Int) => vX6_range x64 x65 G13 fun (x66 : Int) (G14 : ZG) => vX6_thrown G14 fun (x67 : Int) => zbr (x67 = x63) (zjn (fun (_ : Unit) => J2081 G14 (kc + 6) (ks + 127)) fun J697 => zbr (x63 ≠ 0) (J697 ()) (zgF G14 6 0 fun (x68 : Int) => zbr (zcmp x68 x66 = 0) (J697 ()) (False))) (False)) (zbr (bAnd x1 31 = 7) (zsL xs L (w32 (a23_4 + 1)) fun (x69 : Int) => zsL xs L (w32 (a23_4 + 2)) fun (x70 : Int) => zsL xs L (w32 (a23_4 + 3)) fun (x71 : Int) => zsL xs L (w32 (a23_4 + 4)) fun (x72 : Int) => zsL xs L (w32 (a23_4 + 5)) fun (x73 : Int) => (kc + 20 ≤ mc ∧ ks + 297 ≤ ms) ∧ vX0_make x69 x70 x71 x72 x73 K23 fun (x74 : Int) (G15 : ZG) => zsL xs L (w32 (a23_4 + 1)) fun (x75 : Int) => zsL xs L (w32 (a23_4 + 2)) fun (x76 : Int) => zsL xs L (w32 (a23_4 + 3)) fun (x77 : Int) => zsL xs L (w32 (a23_4 + 4)) fun (x78 : Int) => zsL xs L (w32 (a23_4 + 5)) fun (x79 : Int) => vX6_make x75 x76 x77 x78 x79 G15 fun (x80 : Int) (G16 : ZG) => vX6_thrown G16 fun (x81 : Int) => zbr (x81 = x74) (zjn (fun (_ : Unit) => J2081 G16 (kc + 20) (ks + 297)) fun J801 => zbr (x74 ≠ 0) (J801 ()) (zgF G16 6 0 fun (x82 : Int) => zbr (zcmp x82 x80 = 0) (J801 ()) (False))) (False)) (zbr (bAnd x1 31 = 8) (zsL xs L (w32 (a23_4 + 1)) fun (x83 : Int) => zsL xs L (w32 (a23_4 + 2)) fun (x84 : Int) => (kc + 8 ≤ mc ∧ ks + 139 ≤ ms) ∧ vX0_either x83 x84 K23 fun (x85 : Int) (G17 : ZG) => zsL xs L (w32 (a23_4 + 1)) fun (x86 : Int) => zsL xs L (w32 (a23_4 + 2)) fun (x87 : Int) => vX6_either x86 x87 G17 fun (x88 : Int) (G18 : ZG) => vX6_thrown G18 fun (x89 : Int) => zbr (x89 = x85) (zjn (fun (_ : Unit) => J2081 G18 (kc + 8) (ks + 139)) fun J869 => zbr (x85 ≠ 0) (J869 ()) (zgF G18 6 0 fun (x90 : Int) => zbr (zcmp x90 x88 = 0) (J869 ()) (False))) (False)) (zbr (bAnd x1 31 = 9) (zsL xs L (w32 (a23_4 + 1)) fun (x91 : Int) => zsL xs L (w32 (a23_4 + 2)) fun (x92 : Int) => (kc + 8 ≤ mc ∧ ks + 139 ≤ ms) ∧ vX0_view x91 x92 K23 fun (x93 : Int) (G19 : ZG) => zsL xs L (w32 (a23_4 + 1)) fun (x94 : Int) => zsL xs L (w32 (a23_4 + 2)) fun (x95 : Int) => vX6_view x94 x95 G19 fun (x96 : Int) (G20 : ZG) => vX6_thrown G20 fun (x97 : Int) => zbr (x97 = x93) (zjn (fun (_ : Unit) => J2081 G20 (kc + 8) (ks + 139)) fun J937 => zbr (x93 ≠ 0) (J937 ()) (zgF G20 6 0 fun (x98 : Int) => zbr (zcmp x98 x96 = 0) (J937 ()) (False))) (False)) (zbr (bAnd x1 31 = 10) (zsL xs L (w32 (a23_4 + 1)) fun (x99 : Int) => zsL xs L (w32 (a23_4 + 2)) fun (x100 : Int) => zsL xs L (w32 (a23_4 + 3)) fun (x101 : Int) => zsL xs L (w32 (a23_4 + 4)) fun (x102 : Int) => (kc + 21 ≤ mc ∧ ks + 298 ≤ ms) ∧ vX0_list x99 x100 x101 x102 K23 fun (x103 : Int) (G21 : ZG) => zsL xs L (w32 (a23_4 + 1)) fun (x104 : Int) => zsL xs L (w32 (a23_4 + 2)) fun (x105 : Int) => zsL xs L (w32 (a23_4 + 3)) fun (x106 : Int) => zsL xs L (w32 (a23_4 + 4)) fun (x107 : Int) => vX6_list x104 x105 x106 x107 G21 fun (x108 : Int) (G22 : ZG) => vX6_thrown G22 fun (x109 : Int) => zbr (x109 = x103) (zjn (fun (_ : Unit) => J2081 G22 (kc + 21) (ks + 298)) fun J1029 => zbr (x103 ≠ 0) (J1029 ()) (zgF G22 6 0 fun (x110 : Int) => zbr (zcmp x110 x108 = 0) (J1029 ()) (False))) (False)) (zbr (bAnd x1 31 = 11) (zsL xs L (w32 (a23_4 + 1)) fun (x111 : Int) => zsL xs L (w32 (a23_4 + 2)) fun (x112 : Int) => zsL xs L (w32 (a23_4 + 3)) fun (x113 : Int) => zsL xs L (w32 (a23_4 + 4)) fun (x114 : Int) => zsL xs L (w32 (a23_4 + 5)) fun (x115 : Int) => (kc + 3 ≤ mc ∧ ks + 16 ≤ ms) ∧ vX0_setView x111 x112 x113 x114 x115 K23 fun (x116 : Int) (G23 : ZG) => zsL xs L (w32 (a23_4 + 1)) fun (x117 : Int) => zsL xs L (w32 (a23_4 + 2)) fun (x118 : Int) => zsL xs L (w32 (a23_4 + 3)) fun (x119 : Int) => zsL xs L (w32 (a23_4 + 4)) fun (x120 : Int) => zsL xs L (w32 (a23_4 + 5)) fun (x121 : Int) => vX6_setView x117 x118 x119 x120 x121 G23 fun (x122 : Int) (G24 : ZG) => vX6_thrown G24 fun (x123 : Int) => zbr (x123 = x116) (zjn (fun (_ : Unit) => J2081 G24 (kc + 3) (ks + 16)) fun J1133 => zbr (x116 ≠ 0) (J1133 ()) (zgF G24 6 0 fun (x124 : Int) => zbr (zcmp x124 x122 = 0) (J1133 ()) (False))) (False)) (zbr (bAnd x1 31 = 12) (zsL xs L (w32 (a23_4 + 1)) fun (x125 : Int) => zsL xs L (w32 (a23_4 + 2)) fun (x126 : Int) => zsL xs L (w32 (a23_4 + 3)) fun (x127 : Int) => zsL xs L (w32 (a23_4 + 4)) fun (x128 : Int) => (kc + 1 ≤ mc ∧ ks + 6 ≤ ms) ∧ vX0_begin x125 x126 x127 x128 K23 fun (x129 : Int) (G25 : ZG) => zsL xs L (w32 (a23_4 + 1)) fun (x130 : Int) => zsL xs L (w32 (a23_4 + 2)) fun (x131 : Int) => zsL xs L (w32 (a23_4 + 3)) fun (x132 : Int) => zsL xs L (w32 (a23_4 + 4)) fun (x133 : Int) => vX6_begin x130 x131 x132 x133 G25 fun (x134 : Int) (G26 : ZG) => vX6_thrown G26 fun (x135 : Int) => zbr (x135 = x129) (zjn (fun (_ : Unit) => J2081 G26 (kc + 1) (ks + 6)) fun J1225 => zbr (x129 ≠ 0) (J1225 ()) (zgF G26 6 0 fun (x136 : Int) => zbr (zcmp x136 x134 = 0) (J1225 ()) (False))) (False)) (zbr (bAnd x1 31 = 13) (zsL xs L (w32 (a23_4 + 1)) fun (x137 : Int) => zsL xs L (w32 (a23_4 + 2)) fun (x138 : Int) => zsL xs L (w32 (a23_4 + 3)) fun (x139 : Int) => zsL xs L (w32 (a23_4 + 4)) fun (x140 : Int) => (kc + 11 ≤ mc ∧ ks + 151 ≤ ms) ∧ vX0_add x137 x138 x139 x140 K23 fun (x141 : Int) (G27 : ZG) => zsL xs L (w32 (a23_4 + 1)) fun (x142 : Int) => zsL xs L (w32 (a23_4 + 2)) fun (x143 : Int) => zsL xs L (w32 (a23_4 + 3)) fun (x144 : Int) => zsL xs L (w32 (a23_4 + 4)) fun (x145 : Int) => vX6_add x142 x143 x144 x145 G27 fun (x146 : Int) (G28 : ZG) => vX6_thrown G28 fun (x147 : Int) => zbr (x147 = x141) (zjn (fun (_ : Unit) => J2081 G28 (kc + 11) (ks + 151)) fun J1317 => zbr (x141 ≠ 0) (J1317 ()) (zgF G28 6 0 fun (x148 : Int) => zbr (zcmp x148 x146 = 0) (J1317 ()) (False))) (False)) (zbr (bAnd x1 31 = 14) (zsL xs L (w32 (a23_4 + 1)) fun (x149 : Int) => zsL xs L (w32 (a23_4 + 2)) fun (x150 : Int) => zsL xs L (w32 (a23_4 + 3)) fun (x151 : Int) => zsL xs L (w32 (a23_4 + 4)) fun (x152 : Int) => (kc + 4 ≤ mc ∧ ks + 22 ≤ ms) ∧ vX0_guard x149 x150 x151 x152 K23 fun (x153 : Int) (G29 : ZG) => zsL xs L (w32 (a23_4 + 1)) fun (x154 : Int) => zsL xs L (w32 (a23_4 + 2)) fun (x155 : Int) => zsL xs L (w32 (a23_4 + 3)) fun (x156 : Int) => zsL xs L (w32 (a23_4 + 4)) fun (x157 : Int) => vX6_guard x154 x155 x156 x157 G29 fun (x158 : Int) (G30 : ZG) => vX6_thrown G30 fun (x159 : Int) => zbr (x159 = x153) (zjn (fun (_ : Unit) => J2081 G30 (kc + 4) (ks + 22)) fun J1409 => zbr (x153 ≠ 0) (J1409 ()) (zgF G30 6 0 fun (x160 : Int) => zbr (zcmp x160 x158 = 0) (J1409 ()) (False))) (False)) (zbr (bAnd x1 31 = 15) (zsL xs L (w32 (a23_4 + 1)) fun (x161 : Int) => zsL xs L (w32 (a23_4 + 2)) fun (x162 : Int) => (kc + 8 ≤ mc ∧ ks + 136 ≤ ms) ∧ vX0_split x161 x162 K23 fun (x163 : Int) (G31 : ZG) => zsL xs L (w32 (a23_4 + 1)) fun (x164 : Int) => zsL xs L (w32 (a23_4 + 2)) fun (x165 : Int) => vX6_split x164 x165 G31 fun (x166 : Int) (G32 : ZG) => vX6_thrown G32 fun (x167 : Int) => zbr (x167 = x163) (zjn (fun (_ : Unit) => J2081 G32 (kc + 8) (ks + 136)) fun J1477 => zbr (x163 ≠ 0) (J1477 ()) (zgF G32 6 0 fun (x168 : Int) => zbr (zcmp x168 x166 = 0) (J1477 ()) (False))) (False)) (zbr (bAnd x1 31 = 16) (zsL xs L (w32 (a23_4 + 1)) fun (x169 : Int) => zsL xs L (w32 (a23_4 + 2)) fun (x170 : Int) => (kc + 10 ≤ mc ∧ ks + 148 ≤ ms) ∧ vX0_merge x169 x170 K23 fun (x171 : Int) (G33 : ZG) => zsL xs L (w32 (a23_4 + 1)) fun (x172 : Int) => zsL xs L (w32 (a23_4 + 2)) fun (x173 : Int) => vX6_merge x172 x173 G33 fun (x174 : Int) (G34 : ZG) => vX6_thrown G34 fun (x175 : Int) => zbr (x175 = x171) (zjn (fun (_ : Unit) => J2081 G34 (kc + 10) (ks + 148)) fun J1545 => zbr (x171 ≠ 0) (J1545 ()) (zgF G34 6 0 fun (x176 : Int) => zbr (zcmp x176 x174 = 0) (J1545 ()) (False))) (False)) (zbr (bAnd x1 31 = 17) (zsL xs L (w32 (a23_4 + 1)) fun (x177 : Int) => zsL xs L (w32 (a23_4 + 2)) fun (x178 : Int) => zsL xs L (w32 (a23_4 + 3)) fun (x179 : Int) => zsL xs L (w32 (a23_4 + 4)) fun (x180 : Int) => (kc + 1010 ≤ mc ∧ ks + 70051 ≤ ms) ∧ vX0_run x177 x178 x179 x180 K23 fun (x181 : Int) (G35 : ZG) => zsL xs L (w32 (a23_4 + 1)) fun (x182 : Int) => zsL xs L (w32 (a23_4 + 2)) fun (x183 : Int) => zsL xs L (w32 (a23_4 + 3)) fun (x184 : Int) => zsL xs L (w32 (a23_4 + 4)) fun (x185 : Int) => vX6_run x182 x183 x184 x185 G35 fun (x186 : Int) (G36 : ZG) => vX6_thrown G36 fun (x187 : Int) => zbr (x187 = x181) (zjn (fun (_ : Unit) => J2081 G36 (kc + 1010) (ks + 70051)) fun J1637 => zbr (x181 ≠ 0) (J1637 ()) (zgF G36 6 0 fun (x188 : Int) => zbr (zcmp x188 x186 = 0) (J1637 ()) (False))) (False)) (zbr (bAnd x1 31 = 18) (vX1_tests K23 fun (x189 : Int) => vX6_tests K23 fun (x190 : Int) (G37 : ZG) => zbr (x189 = x190) (J2081 G37 kc ks) (False)) (zbr (bAnd x1 31 = 19) (vX1_views K23 fun (x191 : Int) => vX6_views K23 fun (x192 : Int) (G38 : ZG) => zbr (x191 = x192) (J2081 G38 kc ks) (False)) (zbr (bAnd x1 31 = 20) (zsL xs L (w32 (a23_4 + 1)) fun (x193 : Int) => (kc + 1 ≤ mc ∧ ks + 6 ≤ ms) ∧ vX0_viewAt x193 K23 fun (x194 : Int) (G39 : ZG) => zsL xs L (w32 (a23_4 + 1)) fun (x195 : Int) => vX6_viewAt x195 G39 fun (x196 : Int) (G40 : ZG) => vX6_thrown G40 fun (x197 : Int) => zbr (x197 = x194) (zjn (fun (_ : Unit) => J2081 G40 (kc + 1) (ks + 6)) fun J1719 => zbr (x194 ≠ 0) (J1719 ()) (zgF G40 6 0 fun (x198 : Int) => zbr (zcmp x198 x196 = 0) (J1719 ()) (False))) (False)) (zbr (bAnd x1 31 = 21) (zsL xs L (w32 (a23_4 + 1)) fun (x199 : Int) => (kc + 1 ≤ mc ∧ ks + 6 ≤ ms) ∧ vX0_bound x199 K23 fun (x200 : Int) (G41 : ZG) => zsL xs L (w32 (a23_4 + 1)) fun (x201 : Int) => vX6_bound x201 G41 fun (x202 : Int) (G42 : ZG) => vX6_thrown G42 fun (x203 : Int) => zbr (x203 = x200) (zjn (fun (_ : Unit) => J2081 G42 (kc + 1) (ks + 6)) fun J1775 => zbr (x200 ≠ 0) (J1775 ()) (zgF G42 6 0 fun (x204 : Int) => zbr (zcmp x204 x202 = 0) (J1775 ()) (False))) (False)) (zbr (bAnd x1 31 = 22) (zsL xs L (w32 (a23_4 + 1)) fun (x205 : Int) => (kc + 1 ≤ mc ∧ ks + 6 ≤ ms) ∧ vX0_taken x205 K23 fun (x206 : Int) (G43 : ZG) => zsL xs L (w32 (a23_4 + 1)) fun (x207 : Int) => vX6_taken x207 G43 fun (x208 : Int) (G44 : ZG) => vX6_thrown G44 fun (x209 : Int) => zbr (x209 = x206) (zjn (fun (_ : Unit) => J2081 G44 (kc + 1) (ks + 6)) fun J1831 => zbr (x206 ≠ 0) (J1831 ()) (zgF G44 6 0 fun (x210 : Int) => zbr (zcmp x210 x208 = 0) (J1831 ()) (False))) (False)) (zbr (bAnd x1 31 = 23) (zsL xs L (w32 (a23_4 + 1)) fun (x211 : Int) => zsL xs L (w32 (a23_4 + 2)) fun (x212 : Int) => zjn (fun (z1855_2 : Int) => (kc + 2 ≤ mc ∧ ks + 12 ≤ ms) ∧ vX0_size x211 z1855_2 K23 fun (x213 : Int) (G45 : ZG) => zsL xs L (w32 (a23_4 + 1)) fun (x214 : Int) => zsL xs L (w32 (a23_4 + 2)) fun (x215 : Int) => zjn (fun (z1882_2 : Int) => vX6_size x214 z1882_2 G45 fun (x216 : Int) (G46 : ZG) => vX6_thrown G46 fun (x217 : Int) => zbr (x217 = x213) (zjn (fun (_ : Unit) => J2081 G46 (kc + 2) (ks + 12)) fun J1915 => zbr (x213 ≠ 0) (J1915 ()) (zgF G46 6 0 fun (x218 : Int) => zbr (zcmp x218 x216 = 0) (J1915 ()) (False))) (False)) fun J1882 => zbr (x215 = 0) (J1882 0) (J1882 1)) fun J1855 => zbr (x212 = 0) (J1855 0) (J1855 1)) (zbr (bAnd x1 31 = 24) ((kc + 1 ≤ mc ∧ ks + 6 ≤ ms) ∧ vX0_missing K23 fun (x219 : Int) (G47 : ZG) => vX6_missing G47 fun (x220 : Int) (G48 : ZG) => vX6_thrown G48 fun (x221 : Int) => zbr (x221 = x219) (zjn (fun (_ : Unit) => J2081 G48 (kc + 1) (ks + 6)) fun J1959 => zbr (x219 ≠ 0) (J1959 ()) (zgF G48 6 0 fun (x222 : Int) => zbr (zcmp x222 x220 = 0) (J1959 ()) (False))) (False)) (zbr (bAnd x1 31 = 25) (zsL xs L (w32 (a23_4 + 1)) fun (x223 : Int) => (kc + 1 ≤ mc ∧ ks + 6 ≤ ms) ∧ vX0_example x223 K23 fun (x224 : Int) (G49 : ZG) => zsL xs L (w32 (a23_4 + 1)) fun (x225 : Int) => vX6_example x225 G49 fun (x226 : Int) (G50 : ZG) => vX6_thrown G50 fun (x227 : Int) => zbr (x227 = x224) (zjn (fun (_ : Unit) => J2081 G50 (kc + 1) (ks + 6)) fun J2015 => zbr (x224 ≠ 0) (J2015 ()) (zgF G50 6 0 fun (x228 : Int) => zbr (zcmp x228 x226 = 0) (J2015 ()) (False))) (False)) (zbr (bAnd x1 31 = 26) (zsL xs L (w32 (a23_4 + 1)) fun (x229 : Int) => (kc + 2 ≤ mc ∧ ks + 12 ≤ ms) ∧ vX0_isUsed x229 K23 fun (x230 : Int) (G51 : ZG) => zsL xs L (w32 (a23_4 + 1)) fun (x231 : Int) => vX6_isUsed x231 G51 fun (x232 : Int) (G52 : ZG) => vX6_thrown G52 fun (x233 : Int) => zbr (x233 = x230) (zjn (fun (_ : Unit) => J2081 G52 (kc + 2) (ks + 12)) fun J2078 => zbr (x230 ≠ 0) (J2078 ()) (zgF G52 6 0 fun (x234 : Int) => zjn (fun (z2072_1 : Int) => zbr (zcmp x234 z2072_1 = 0) (J2078 ()) (False)) fun J2072 => zbr (x232 = 0) (J2072 0) (J2072 1))) (False)) (J2081 K23 kc ks))))))))))))))))))))))))))))) i0 G k0 n0
set_option maxHeartbeats 16000000 in
theorem mLaw {p : Program} {l : Launch} {e : Env} {s : State} {m : MethodId} {args : Array Value} {below : List Frame} {meth : Method} {c : Code} {P : ZP} {Z : State → Prop} {b L mc ms : Nat} {xs : Nat → Int32} (hst : l.stackTraces = false) (hC : zCx P p m c cL_law 7 s args RX0) (hX : zScr P s b L xs) (hLR : inR (L : Int))
    (hret : ∀ (G1 : ZG) (H1 : Heap) (locs1 : List Loc) (kc ks : Nat) {ls : Array Slot}, zS P s G1 H1 locs1 → kc ≤ mc → ks ≤ ms → W p l e ({ frames := 8192, cells := mc, slots := ms, locals := 104096 } : Room) s m args below meth c H1 locs1 kc ks Z (F0 m 2088 ls [.int (zI 1)]))
    {G : ZG} {H : Heap} {locs : List Loc} {ls : Array Slot} {i0 : Int} (hi0 : inR i0) {k0 n0 : Nat} (hG : zS P s G H locs) (hL : zL ls 7 [(0, .ref b), (1, .ref (zA P 0 0 0)), (2, .ref (zA P 5 0 0)), (3, .ref (zA P 6 1 0)), (4, .int (zI i0))]) (hB : k0 ≤ mc ∧ n0 ≤ ms) (hV : vLaw xs L mc ms i0 G k0 n0) : W p l e ({ frames := 8192, cells := mc, slots := ms, locals := 104096 } : Room) s m args below meth c H locs k0 n0 Z (F0 m 23 ls []) := by
  unfold vLaw at hV
  refine zl4_use hV (fun (a23_4 : Int) (K23 : ZG) (kc ks : Nat) => inR a23_4 → (kc ≤ mc ∧ ks ≤ ms) → ∀ (H : Heap) (locs : List Loc), zS P s K23 H locs → ∀ (ls : Array Slot), zL ls 7 [(0, .ref b), (1, .ref (zA P 0 0 0)), (2, .ref (zA P 5 0 0)), (3, .ref (zA P 6 1 0)), (4, .int (zI a23_4))] → W p l e ({ frames := 8192, cells := mc, slots := ms, locals := 104096 } : Room) s m args below meth c H locs kc ks Z (F0 m 23 ls [])) ?_ hi0 hB _ _ hG _ hL
  intro P23 a23_4 K23 kc ks hP23 hV ha23_4 hB H locs hG ls hL
  refine z_iload hC (hL.at 4 rfl) dL_law_23 ?_
  refine z_aload_n hC zvr_a rfl (hL.at 0 rfl) dL_law_25 ?_
  refine z_slen hC hG hX dL_law_26 ?_
  refine z_bipush hC rfl dL_law_27 ?_
  refine z_isub hC dL_law_29 ?_
  refine z_icmp_gt (tgt := 2087) hC ha23_4 (inR_w _) hV dL_law_30 (by decide) ?_ ?_
  · intro hV
    refine z_iconst hC dL_law_2087 ?_
    exact hret _ _ _ _ _ hG hB.1 hB.2
  · intro hV
    refine z_aload_n hC zvr_a rfl (hL.at 0 rfl) dL_law_33 ?_
    refine z_iload hC (hL.at 4 rfl) dL_law_34 ?_
    refine z_sld hC hG hX ha23_4 hV dL_law_36 ?_
    intro x1 hx1 hV
    refine z_bipush hC rfl dL_law_37 ?_
    refine z_iand hC dL_law_39 ?_
    obtain ⟨J2081, eJ2081, hV⟩ := zjn_abs hV
    have hJ2081 : ∀ (H2081 : ZG) (kc ks : Nat), (kc ≤ mc ∧ ks ≤ ms) → J2081 H2081 kc ks → ∀ (H : Heap) (locs : List Loc) (ls : Array Slot), zS P s H2081 H locs → zL ls 7 [(0, .ref b), (1, .ref (zA P 0 0 0)), (2, .ref (zA P 5 0 0)), (3, .ref (zA P 6 1 0)), (4, .int (zI a23_4))] → W p l e ({ frames := 8192, cells := mc, slots := ms, locals := 104096 } : Room) s m args below meth c H locs kc ks Z (F0 m 2081 ls []) := by
      intro H2081 kc ks hB hV H locs ls hG hL
      rw [eJ2081] at hV
      refine z_iincV (fun x2 => [(4, .int (zI x2)), (0, .ref b), (1, .ref (zA P 0 0 0)), (2, .ref (zA P 5 0 0)), (3, .ref (zA P 6 1 0))]) hC hL (k := 4) rfl (by decide) (fun _ => rfl) hV dL_law_2081 ?_
      intro x2 hx2 hV ls hL
      refine z_goto (tgt := 23) hC dL_law_2084 (by decide) ?_
      exact hP23 x2 H2081 kc ks hV hx2 hB _ _ hG _ (hL.sub [1, 2, 3, 4, 0] rfl)
    refine z_case (x := bAnd x1 31) (v := 0) hV (fun hc0 hV => ?_) (fun hd0 hV => ?_)
    · refine z_tsw (tgt := 164) hC (inR_toInt _) dL_law_40 (by rw [hc0]; decide) (fun i hi => by simp only [List.size_toArray, List.length_cons, List.length_nil]; omega) ?_
      refine z_aload_n hC zvr_a rfl (hL.at 1 rfl) dL_law_164 ?_
      refine z_aload_n hC zvr_a rfl (hL.at 0 rfl) dL_law_165 ?_
      refine z_iload hC (hL.at 4 rfl) dL_law_166 ?_
      refine z_iconst hC dL_law_168 ?_
      refine z_iadd hC dL_law_169 ?_
      refine z_sld hC hG hX (inR_w _) hV dL_law_170 ?_
      intro x3 hx3 hV
      refine z_aload_n hC zvr_a rfl (hL.at 0 rfl) dL_law_171 ?_
      refine z_iload hC (hL.at 4 rfl) dL_law_172 ?_
      refine z_iconst hC dL_law_174 ?_
      refine z_iadd hC dL_law_175 ?_
      refine z_sld hC hG hX (inR_w _) hV dL_law_176 ?_
      intro x4 hx4 hV
      refine z_aload_n hC zvr_a rfl (hL.at 0 rfl) dL_law_177 ?_
      refine z_iload hC (hL.at 4 rfl) dL_law_178 ?_
      refine z_iconst hC dL_law_180 ?_
      refine z_iadd hC dL_law_181 ?_
      refine z_sld hC hG hX (inR_w _) hV dL_law_182 ?_
      intro x5 hx5 hV
      refine z_aload_n hC zvr_a rfl (hL.at 0 rfl) dL_law_183 ?_
      refine z_iload hC (hL.at 4 rfl) dL_law_184 ?_
      refine z_iconst hC dL_law_186 ?_
      refine z_iadd hC dL_law_187 ?_
      refine z_sld hC hG hX (inR_w _) hV dL_law_188 ?_
      intro x6 hx6 hV
      refine z_aload_n hC zvr_a rfl (hL.at 0 rfl) dL_law_189 ?_
      refine z_iload hC (hL.at 4 rfl) dL_law_190 ?_
      refine z_iconst hC dL_law_192 ?_
      refine z_iadd hC dL_law_193 ?_
      refine z_sld hC hG hX (inR_w _) hV dL_law_194 ?_
      intro x7 hx7 hV
      refine z_aload_n hC zvr_a rfl (hL.at 3 rfl) dL_law_195 ?_
      obtain ⟨hB, hV⟩ := hV
      refine z_call_i hG (z_runSW hC hG (mX0_constructor l P K23 x3 hx3 x4 hx4 x5 hx5 x6 hx6 x7 hx7 hst hV) kWX0_101 rfl rfl rfl ⟨(Nat.le_of_ble_eq_true rfl), (Nat.le_of_ble_eq_true rfl)⟩ ⟨hB.1, hB.2⟩ rfl ⟨zcs_0, (Nat.le_of_ble_eq_true rfl)⟩ hL.1.1 dL_law_196) ?_
      rintro x8 G1 _ _ hx8 hV hG
      refine z_istore (lv' := [(5, .int (zI x8)), (0, .ref b), (1, .ref (zA P 0 0 0)), (2, .ref (zA P 5 0 0)), (3, .ref (zA P 6 1 0)), (4, .int (zI a23_4))]) hC hL (by decide) rfl dL_law_199 (fun ls hL => ?_)
      refine z_aload_n hC zvr_a rfl (hL.at 3 rfl) dL_law_201 ?_
      refine z_aload_n hC zvr_a rfl (hL.at 1 rfl) dL_law_202 ?_
      refine z_iload hC (hL.at 5 rfl) dL_law_203 ?_
      refine z_iconst hC dL_law_205 ?_
      refine z_iadd hC dL_law_206 ?_
      refine z_sld hC hG hX (inR_w _) hV dL_law_207 ?_
      intro x9 hx9 hV
      refine z_aload_n hC zvr_a rfl (hL.at 1 rfl) dL_law_208 ?_
      refine z_iload hC (hL.at 5 rfl) dL_law_209 ?_
      refine z_iconst hC dL_law_211 ?_
      refine z_iadd hC dL_law_212 ?_
      refine z_sld hC hG hX (inR_w _) hV dL_law_213 ?_
      intro x10 hx10 hV
      refine z_aload_n hC zvr_a rfl (hL.at 1 rfl) dL_law_214 ?_
      refine z_iload hC (hL.at 5 rfl) dL_law_215 ?_
      refine z_iconst hC dL_law_217 ?_
      refine z_iadd hC dL_law_218 ?_
      refine z_sld hC hG hX (inR_w _) hV dL_law_219 ?_
      intro x11 hx11 hV
      refine z_aload_n hC zvr_a rfl (hL.at 1 rfl) dL_law_220 ?_
      refine z_iload hC (hL.at 5 rfl) dL_law_221 ?_
      refine z_iconst hC dL_law_223 ?_
      refine z_iadd hC dL_law_224 ?_
      refine z_sld hC hG hX (inR_w _) hV dL_law_225 ?_
      intro x12 hx12 hV
      refine z_aload_n hC zvr_a rfl (hL.at 1 rfl) dL_law_226 ?_
      refine z_iload hC (hL.at 5 rfl) dL_law_227 ?_
      refine z_iconst hC dL_law_229 ?_
      refine z_iadd hC dL_law_230 ?_
      refine z_sld hC hG hX (inR_w _) hV dL_law_231 ?_
      intro x13 hx13 hV
      refine z_call_i hG (zrunV (ci := 6) hC hG (Nat.le_of_ble_eq_true rfl) (Nat.le_of_ble_eq_true rfl) (zobj hG rfl (Nat.le_of_ble_eq_true rfl) (Nat.le_of_ble_eq_true rfl)) (mX6_constructor l P G1 x9 hx9 x10 hx10 x11 hx11 x12 hx12 x13 hx13 hV) kVX0_106 rfl rfl rfl ⟨(Nat.le_of_ble_eq_true rfl), (Nat.le_of_ble_eq_true rfl)⟩ ⟨hB.1, hB.2⟩ rfl ⟨zcs_0, (Nat.le_of_ble_eq_true rfl)⟩ hL.1.1 dL_law_232) ?_
      rintro x14 G2 _ _ hx14 hV hG
      refine z_istore (lv' := [(6, .int (zI x14)), (5, .int (zI x8)), (0, .ref b), (1, .ref (zA P 0 0 0)), (2, .ref (zA P 5 0 0)), (3, .ref (zA P 6 1 0)), (4, .int (zI a23_4))]) hC hL (by decide) rfl dL_law_235 (fun ls hL => ?_)
      refine z_aload_n hC zvr_a rfl (hL.at 4 rfl) dL_law_237 ?_
      refine z_call_i hG (zrunV (ci := 6) hC hG (Nat.le_of_ble_eq_true rfl) (Nat.le_of_ble_eq_true rfl) (zobj hG rfl (Nat.le_of_ble_eq_true rfl) (Nat.le_of_ble_eq_true rfl)) (mX6_thrown l P G2 hV) kVX0_107 rfl rfl rfl ⟨(Nat.le_of_ble_eq_true rfl), (Nat.le_of_ble_eq_true rfl)⟩ ⟨hB.1, hB.2⟩ rfl ⟨zcs_0, (Nat.le_of_ble_eq_true rfl)⟩ hL.1.1 dL_law_238) ?_
      rintro x15 _ _ _ hx15 ⟨rfl, hV⟩ hG
      refine z_iload hC (hL.at 1 rfl) dL_law_241 ?_
      refine z_icmp_eq (tgt := 248) hC hx15 hx8 hV dL_law_243 (by decide) ?_ ?_
      · intro hV
        refine z_iload hC (hL.at 1 rfl) dL_law_248 ?_
        obtain ⟨J265, eJ265, hV⟩ := zjn_abs hV
        have hJ265 : ∀ {H : Heap} {locs : List Loc}, zS P s G2 H locs → J265 () → ∀ (ls : Array Slot), zL ls 7 [(0, .ref b), (1, .ref (zA P 0 0 0)), (2, .ref (zA P 5 0 0)), (3, .ref (zA P 6 1 0)), (4, .int (zI a23_4))] → W p l e ({ frames := 8192, cells := mc, slots := ms, locals := 104096 } : Room) s m args below meth c H locs (kc + 5) (ks + 121) Z (F0 m 265 ls []) := by
          intro H locs hG hV ls hL
          rw [eJ265] at hV
          refine z_goto (tgt := 2081) hC dL_law_265 (by decide) ?_
          exact hJ2081 G2 (kc + 5) (ks + 121) hB hV _ _ _ hG hL
        refine z_if_ne (tgt := 265) hC hx8 hV dL_law_250 (by decide) ?_ ?_
        · intro hV
          exact hJ265 hG hV _ (hL.sub [2, 3, 4, 5, 6] rfl)
        · intro hV
          refine z_aload_n hC zvr_a rfl (hL.at 5 rfl) dL_law_253 ?_
          refine z_iconst hC dL_law_254 ?_
          refine z_outL hC hG hV dL_law_255 ?_
          intro x16 hx16 hV
          refine z_iload hC (hL.at 0 rfl) dL_law_256 ?_
          refine z_i2l hC hx14 dL_law_258 ?_
          refine z_lcmp hC hx16 hx14 dL_law_259 ?_
          refine z_if_eq (tgt := 265) hC (zcmp_in _ _) hV dL_law_260 (by decide) ?_ ?_
          · intro hV
            exact hJ265 hG hV _ (hL.sub [2, 3, 4, 5, 6] rfl)
          · intro hV
            refine z_iconst hC dL_law_263 ?_
            exact hV.elim
      · intro hV
        refine z_iconst hC dL_law_246 ?_
        exact hV.elim
    ·
      refine z_case (x := bAnd x1 31) (v := 1) hV (fun hc1 hV => ?_) (fun hd1 hV => ?_)
      · refine z_tsw (tgt := 268) hC (inR_toInt _) dL_law_40 (by rw [hc1]; decide) (fun i hi => by simp only [List.size_toArray, List.length_cons, List.length_nil]; omega) ?_
        refine z_aload_n hC zvr_a rfl (hL.at 1 rfl) dL_law_268 ?_
        refine z_aload_n hC zvr_a rfl (hL.at 0 rfl) dL_law_269 ?_
        refine z_iload hC (hL.at 4 rfl) dL_law_270 ?_
        refine z_iconst hC dL_law_272 ?_
        refine z_iadd hC dL_law_273 ?_
        refine z_sld hC hG hX (inR_w _) hV dL_law_274 ?_
        intro x17 hx17 hV
        refine z_aload_n hC zvr_a rfl (hL.at 3 rfl) dL_law_275 ?_
        obtain ⟨hB, hV⟩ := hV
        refine z_call_i hG (z_runSW hC hG (mX0_num l P K23 x17 hx17 hst hV) kWX0_110 rfl rfl rfl ⟨(Nat.le_of_ble_eq_true rfl), (Nat.le_of_ble_eq_true rfl)⟩ ⟨hB.1, hB.2⟩ rfl ⟨zcs_0, (Nat.le_of_ble_eq_true rfl)⟩ hL.1.1 dL_law_276) ?_
        rintro x18 G3 _ _ hx18 hV hG
        refine z_istore (lv' := [(5, .int (zI x18)), (0, .ref b), (1, .ref (zA P 0 0 0)), (2, .ref (zA P 5 0 0)), (3, .ref (zA P 6 1 0)), (4, .int (zI a23_4))]) hC hL (by decide) rfl dL_law_279 (fun ls hL => ?_)
        refine z_aload_n hC zvr_a rfl (hL.at 3 rfl) dL_law_281 ?_
        refine z_aload_n hC zvr_a rfl (hL.at 1 rfl) dL_law_282 ?_
        refine z_iload hC (hL.at 5 rfl) dL_law_283 ?_
        refine z_iconst hC dL_law_285 ?_
        refine z_iadd hC dL_law_286 ?_
        refine z_sld hC hG hX (inR_w _) hV dL_law_287 ?_
        intro x19 hx19 hV
        refine z_call_i hG (zrunV (ci := 6) hC hG (Nat.le_of_ble_eq_true rfl) (Nat.le_of_ble_eq_true rfl) (zobj hG rfl (Nat.le_of_ble_eq_true rfl) (Nat.le_of_ble_eq_true rfl)) (mX6_num l P G3 x19 hx19 hV) kVX0_113 rfl rfl rfl ⟨(Nat.le_of_ble_eq_true rfl), (Nat.le_of_ble_eq_true rfl)⟩ ⟨hB.1, hB.2⟩ rfl ⟨zcs_0, (Nat.le_of_ble_eq_true rfl)⟩ hL.1.1 dL_law_288) ?_
        rintro x20 G4 _ _ hx20 hV hG
        refine z_istore (lv' := [(6, .int (zI x20)), (5, .int (zI x18)), (0, .ref b), (1, .ref (zA P 0 0 0)), (2, .ref (zA P 5 0 0)), (3, .ref (zA P 6 1 0)), (4, .int (zI a23_4))]) hC hL (by decide) rfl dL_law_291 (fun ls hL => ?_)
        refine z_aload_n hC zvr_a rfl (hL.at 4 rfl) dL_law_293 ?_
        refine z_call_i hG (zrunV (ci := 6) hC hG (Nat.le_of_ble_eq_true rfl) (Nat.le_of_ble_eq_true rfl) (zobj hG rfl (Nat.le_of_ble_eq_true rfl) (Nat.le_of_ble_eq_true rfl)) (mX6_thrown l P G4 hV) kVX0_107 rfl rfl rfl ⟨(Nat.le_of_ble_eq_true rfl), (Nat.le_of_ble_eq_true rfl)⟩ ⟨hB.1, hB.2⟩ rfl ⟨zcs_0, (Nat.le_of_ble_eq_true rfl)⟩ hL.1.1 dL_law_294) ?_
        rintro x21 _ _ _ hx21 ⟨rfl, hV⟩ hG
        refine z_iload hC (hL.at 1 rfl) dL_law_297 ?_
        refine z_icmp_eq (tgt := 304) hC hx21 hx18 hV dL_law_299 (by decide) ?_ ?_
        · intro hV
          refine z_iload hC (hL.at 1 rfl) dL_law_304 ?_
          obtain ⟨J321, eJ321, hV⟩ := zjn_abs hV
          have hJ321 : ∀ {H : Heap} {locs : List Loc}, zS P s G4 H locs → J321 () → ∀ (ls : Array Slot), zL ls 7 [(0, .ref b), (1, .ref (zA P 0 0 0)), (2, .ref (zA P 5 0 0)), (3, .ref (zA P 6 1 0)), (4, .int (zI a23_4))] → W p l e ({ frames := 8192, cells := mc, slots := ms, locals := 104096 } : Room) s m args below meth c H locs (kc + 5) (ks + 116) Z (F0 m 321 ls []) := by
            intro H locs hG hV ls hL
            rw [eJ321] at hV
            refine z_goto (tgt := 2081) hC dL_law_321 (by decide) ?_
            exact hJ2081 G4 (kc + 5) (ks + 116) hB hV _ _ _ hG hL
          refine z_if_ne (tgt := 321) hC hx18 hV dL_law_306 (by decide) ?_ ?_
          · intro hV
            exact hJ321 hG hV _ (hL.sub [2, 3, 4, 5, 6] rfl)
          · intro hV
            refine z_aload_n hC zvr_a rfl (hL.at 5 rfl) dL_law_309 ?_
            refine z_iconst hC dL_law_310 ?_
            refine z_outL hC hG hV dL_law_311 ?_
            intro x22 hx22 hV
            refine z_iload hC (hL.at 0 rfl) dL_law_312 ?_
            refine z_i2l hC hx20 dL_law_314 ?_
            refine z_lcmp hC hx22 hx20 dL_law_315 ?_
            refine z_if_eq (tgt := 321) hC (zcmp_in _ _) hV dL_law_316 (by decide) ?_ ?_
            · intro hV
              exact hJ321 hG hV _ (hL.sub [2, 3, 4, 5, 6] rfl)
            · intro hV
              refine z_iconst hC dL_law_319 ?_
              exact hV.elim
        · intro hV
          refine z_iconst hC dL_law_302 ?_
          exact hV.elim
      ·
        refine z_case (x := bAnd x1 31) (v := 2) hV (fun hc2 hV => ?_) (fun hd2 hV => ?_)
        · refine z_tsw (tgt := 324) hC (inR_toInt _) dL_law_40 (by rw [hc2]; decide) (fun i hi => by simp only [List.size_toArray, List.length_cons, List.length_nil]; omega) ?_
          refine z_aload_n hC zvr_a rfl (hL.at 1 rfl) dL_law_324 ?_
          refine z_aload_n hC zvr_a rfl (hL.at 0 rfl) dL_law_325 ?_
          refine z_iload hC (hL.at 4 rfl) dL_law_326 ?_
          refine z_iconst hC dL_law_328 ?_
          refine z_iadd hC dL_law_329 ?_
          refine z_sld hC hG hX (inR_w _) hV dL_law_330 ?_
          intro x23 hx23 hV
          refine z_aload_n hC zvr_a rfl (hL.at 0 rfl) dL_law_331 ?_
          refine z_iload hC (hL.at 4 rfl) dL_law_332 ?_
          refine z_iconst hC dL_law_334 ?_
          refine z_iadd hC dL_law_335 ?_
          refine z_sld hC hG hX (inR_w _) hV dL_law_336 ?_
          intro x24 hx24 hV
          refine z_aload_n hC zvr_a rfl (hL.at 0 rfl) dL_law_337 ?_
          refine z_iload hC (hL.at 4 rfl) dL_law_338 ?_
          refine z_iconst hC dL_law_340 ?_
          refine z_iadd hC dL_law_341 ?_
          refine z_sld hC hG hX (inR_w _) hV dL_law_342 ?_
          intro x25 hx25 hV
          refine z_aload_n hC zvr_a rfl (hL.at 0 rfl) dL_law_343 ?_
          refine z_iload hC (hL.at 4 rfl) dL_law_344 ?_
          refine z_iconst hC dL_law_346 ?_
          refine z_iadd hC dL_law_347 ?_
          refine z_sld hC hG hX (inR_w _) hV dL_law_348 ?_
          intro x26 hx26 hV
          refine z_aload_n hC zvr_a rfl (hL.at 3 rfl) dL_law_349 ?_
          obtain ⟨hB, hV⟩ := hV
          refine z_call_i hG (z_runSW hC hG (mX0_seq l P K23 x23 hx23 x24 hx24 x25 hx25 x26 hx26 hst hV) kWX0_114 rfl rfl rfl ⟨(Nat.le_of_ble_eq_true rfl), (Nat.le_of_ble_eq_true rfl)⟩ ⟨hB.1, hB.2⟩ rfl ⟨zcs_0, (Nat.le_of_ble_eq_true rfl)⟩ hL.1.1 dL_law_350) ?_
          rintro x27 G5 _ _ hx27 hV hG
          refine z_istore (lv' := [(5, .int (zI x27)), (0, .ref b), (1, .ref (zA P 0 0 0)), (2, .ref (zA P 5 0 0)), (3, .ref (zA P 6 1 0)), (4, .int (zI a23_4))]) hC hL (by decide) rfl dL_law_353 (fun ls hL => ?_)
          refine z_aload_n hC zvr_a rfl (hL.at 3 rfl) dL_law_355 ?_
          refine z_aload_n hC zvr_a rfl (hL.at 1 rfl) dL_law_356 ?_
          refine z_iload hC (hL.at 5 rfl) dL_law_357 ?_
          refine z_iconst hC dL_law_359 ?_
          refine z_iadd hC dL_law_360 ?_
          refine z_sld hC hG hX (inR_w _) hV dL_law_361 ?_
          intro x28 hx28 hV
          refine z_aload_n hC zvr_a rfl (hL.at 1 rfl) dL_law_362 ?_
          refine z_iload hC (hL.at 5 rfl) dL_law_363 ?_
          refine z_iconst hC dL_law_365 ?_
          refine z_iadd hC dL_law_366 ?_
          refine z_sld hC hG hX (inR_w _) hV dL_law_367 ?_
          intro x29 hx29 hV
          refine z_aload_n hC zvr_a rfl (hL.at 1 rfl) dL_law_368 ?_
          refine z_iload hC (hL.at 5 rfl) dL_law_369 ?_
          refine z_iconst hC dL_law_371 ?_
          refine z_iadd hC dL_law_372 ?_
          refine z_sld hC hG hX (inR_w _) hV dL_law_373 ?_
          intro x30 hx30 hV
          refine z_aload_n hC zvr_a rfl (hL.at 1 rfl) dL_law_374 ?_
          refine z_iload hC (hL.at 5 rfl) dL_law_375 ?_
          refine z_iconst hC dL_law_377 ?_
          refine z_iadd hC dL_law_378 ?_
          refine z_sld hC hG hX (inR_w _) hV dL_law_379 ?_
          intro x31 hx31 hV
          refine z_call_i hG (zrunV (ci := 6) hC hG (Nat.le_of_ble_eq_true rfl) (Nat.le_of_ble_eq_true rfl) (zobj hG rfl (Nat.le_of_ble_eq_true rfl) (Nat.le_of_ble_eq_true rfl)) (mX6_seq l P G5 x28 hx28 x29 hx29 x30 hx30 x31 hx31 hV) kVX0_117 rfl rfl rfl ⟨(Nat.le_of_ble_eq_true rfl), (Nat.le_of_ble_eq_true rfl)⟩ ⟨hB.1, hB.2⟩ rfl ⟨zcs_0, (Nat.le_of_ble_eq_true rfl)⟩ hL.1.1 dL_law_380) ?_
          rintro x32 G6 _ _ hx32 hV hG
          refine z_istore (lv' := [(6, .int (zI x32)), (5, .int (zI x27)), (0, .ref b), (1, .ref (zA P 0 0 0)), (2, .ref (zA P 5 0 0)), (3, .ref (zA P 6 1 0)), (4, .int (zI a23_4))]) hC hL (by decide) rfl dL_law_383 (fun ls hL => ?_)
          refine z_aload_n hC zvr_a rfl (hL.at 4 rfl) dL_law_385 ?_
          refine z_call_i hG (zrunV (ci := 6) hC hG (Nat.le_of_ble_eq_true rfl) (Nat.le_of_ble_eq_true rfl) (zobj hG rfl (Nat.le_of_ble_eq_true rfl) (Nat.le_of_ble_eq_true rfl)) (mX6_thrown l P G6 hV) kVX0_107 rfl rfl rfl ⟨(Nat.le_of_ble_eq_true rfl), (Nat.le_of_ble_eq_true rfl)⟩ ⟨hB.1, hB.2⟩ rfl ⟨zcs_0, (Nat.le_of_ble_eq_true rfl)⟩ hL.1.1 dL_law_386) ?_
          rintro x33 _ _ _ hx33 ⟨rfl, hV⟩ hG
          refine z_iload hC (hL.at 1 rfl) dL_law_389 ?_
          refine z_icmp_eq (tgt := 396) hC hx33 hx27 hV dL_law_391 (by decide) ?_ ?_
          · intro hV
            refine z_iload hC (hL.at 1 rfl) dL_law_396 ?_
            obtain ⟨J413, eJ413, hV⟩ := zjn_abs hV
            have hJ413 : ∀ {H : Heap} {locs : List Loc}, zS P s G6 H locs → J413 () → ∀ (ls : Array Slot), zL ls 7 [(0, .ref b), (1, .ref (zA P 0 0 0)), (2, .ref (zA P 5 0 0)), (3, .ref (zA P 6 1 0)), (4, .int (zI a23_4))] → W p l e ({ frames := 8192, cells := mc, slots := ms, locals := 104096 } : Room) s m args below meth c H locs (kc + 5) (ks + 119) Z (F0 m 413 ls []) := by
              intro H locs hG hV ls hL
              rw [eJ413] at hV
              refine z_goto (tgt := 2081) hC dL_law_413 (by decide) ?_
              exact hJ2081 G6 (kc + 5) (ks + 119) hB hV _ _ _ hG hL
            refine z_if_ne (tgt := 413) hC hx27 hV dL_law_398 (by decide) ?_ ?_
            · intro hV
              exact hJ413 hG hV _ (hL.sub [2, 3, 4, 5, 6] rfl)
            · intro hV
              refine z_aload_n hC zvr_a rfl (hL.at 5 rfl) dL_law_401 ?_
              refine z_iconst hC dL_law_402 ?_
              refine z_outL hC hG hV dL_law_403 ?_
              intro x34 hx34 hV
              refine z_iload hC (hL.at 0 rfl) dL_law_404 ?_
              refine z_i2l hC hx32 dL_law_406 ?_
              refine z_lcmp hC hx34 hx32 dL_law_407 ?_
              refine z_if_eq (tgt := 413) hC (zcmp_in _ _) hV dL_law_408 (by decide) ?_ ?_
              · intro hV
                exact hJ413 hG hV _ (hL.sub [2, 3, 4, 5, 6] rfl)
              · intro hV
                refine z_iconst hC dL_law_411 ?_
                exact hV.elim
          · intro hV
            refine z_iconst hC dL_law_394 ?_
            exact hV.elim
        ·
          refine z_case (x := bAnd x1 31) (v := 3) hV (fun hc3 hV => ?_) (fun hd3 hV => ?_)
          · refine z_tsw (tgt := 416) hC (inR_toInt _) dL_law_40 (by rw [hc3]; decide) (fun i hi => by simp only [List.size_toArray, List.length_cons, List.length_nil]; omega) ?_
            refine z_aload_n hC zvr_a rfl (hL.at 1 rfl) dL_law_416 ?_
            refine z_aload_n hC zvr_a rfl (hL.at 0 rfl) dL_law_417 ?_
            refine z_iload hC (hL.at 4 rfl) dL_law_418 ?_
            refine z_iconst hC dL_law_420 ?_
            refine z_iadd hC dL_law_421 ?_
            refine z_sld hC hG hX (inR_w _) hV dL_law_422 ?_
            intro x35 hx35 hV
            refine z_aload_n hC zvr_a rfl (hL.at 0 rfl) dL_law_423 ?_
            refine z_iload hC (hL.at 4 rfl) dL_law_424 ?_
            refine z_iconst hC dL_law_426 ?_
            refine z_iadd hC dL_law_427 ?_
            refine z_sld hC hG hX (inR_w _) hV dL_law_428 ?_
            intro x36 hx36 hV
            refine z_aload_n hC zvr_a rfl (hL.at 0 rfl) dL_law_429 ?_
            refine z_iload hC (hL.at 4 rfl) dL_law_430 ?_
            refine z_iconst hC dL_law_432 ?_
            refine z_iadd hC dL_law_433 ?_
            refine z_sld hC hG hX (inR_w _) hV dL_law_434 ?_
            intro x37 hx37 hV
            refine z_aload_n hC zvr_a rfl (hL.at 0 rfl) dL_law_435 ?_
            refine z_iload hC (hL.at 4 rfl) dL_law_436 ?_
            refine z_iconst hC dL_law_438 ?_
            refine z_iadd hC dL_law_439 ?_
            refine z_sld hC hG hX (inR_w _) hV dL_law_440 ?_
            intro x38 hx38 hV
            refine z_aload_n hC zvr_a rfl (hL.at 0 rfl) dL_law_441 ?_
            refine z_iload hC (hL.at 4 rfl) dL_law_442 ?_
            refine z_iconst hC dL_law_444 ?_
            refine z_iadd hC dL_law_445 ?_
            refine z_sld hC hG hX (inR_w _) hV dL_law_446 ?_
            intro x39 hx39 hV
            refine z_aload_n hC zvr_a rfl (hL.at 3 rfl) dL_law_447 ?_
            obtain ⟨hB, hV⟩ := hV
            refine z_call_i hG (z_runSW hC hG (mX0_data l P K23 x35 hx35 x36 hx36 x37 hx37 x38 hx38 x39 hx39 hst hV) kWX0_118 rfl rfl rfl ⟨(Nat.le_of_ble_eq_true rfl), (Nat.le_of_ble_eq_true rfl)⟩ ⟨hB.1, hB.2⟩ rfl ⟨zcs_0, (Nat.le_of_ble_eq_true rfl)⟩ hL.1.1 dL_law_448) ?_
            rintro x40 G7 _ _ hx40 hV hG
            refine z_istore (lv' := [(5, .int (zI x40)), (0, .ref b), (1, .ref (zA P 0 0 0)), (2, .ref (zA P 5 0 0)), (3, .ref (zA P 6 1 0)), (4, .int (zI a23_4))]) hC hL (by decide) rfl dL_law_451 (fun ls hL => ?_)
            refine z_aload_n hC zvr_a rfl (hL.at 3 rfl) dL_law_453 ?_
            refine z_aload_n hC zvr_a rfl (hL.at 1 rfl) dL_law_454 ?_
            refine z_iload hC (hL.at 5 rfl) dL_law_455 ?_
            refine z_iconst hC dL_law_457 ?_
            refine z_iadd hC dL_law_458 ?_
            refine z_sld hC hG hX (inR_w _) hV dL_law_459 ?_
            intro x41 hx41 hV
            refine z_aload_n hC zvr_a rfl (hL.at 1 rfl) dL_law_460 ?_
            refine z_iload hC (hL.at 5 rfl) dL_law_461 ?_
            refine z_iconst hC dL_law_463 ?_
            refine z_iadd hC dL_law_464 ?_
            refine z_sld hC hG hX (inR_w _) hV dL_law_465 ?_
            intro x42 hx42 hV
            refine z_aload_n hC zvr_a rfl (hL.at 1 rfl) dL_law_466 ?_
            refine z_iload hC (hL.at 5 rfl) dL_law_467 ?_
            refine z_iconst hC dL_law_469 ?_
            refine z_iadd hC dL_law_470 ?_
            refine z_sld hC hG hX (inR_w _) hV dL_law_471 ?_
            intro x43 hx43 hV
            refine z_aload_n hC zvr_a rfl (hL.at 1 rfl) dL_law_472 ?_
            refine z_iload hC (hL.at 5 rfl) dL_law_473 ?_
            refine z_iconst hC dL_law_475 ?_
            refine z_iadd hC dL_law_476 ?_
            refine z_sld hC hG hX (inR_w _) hV dL_law_477 ?_
            intro x44 hx44 hV
            refine z_aload_n hC zvr_a rfl (hL.at 1 rfl) dL_law_478 ?_
            refine z_iload hC (hL.at 5 rfl) dL_law_479 ?_
            refine z_iconst hC dL_law_481 ?_
            refine z_iadd hC dL_law_482 ?_
            refine z_sld hC hG hX (inR_w _) hV dL_law_483 ?_
            intro x45 hx45 hV
            refine z_call_i hG (zrunV (ci := 6) hC hG (Nat.le_of_ble_eq_true rfl) (Nat.le_of_ble_eq_true rfl) (zobj hG rfl (Nat.le_of_ble_eq_true rfl) (Nat.le_of_ble_eq_true rfl)) (mX6_data l P G7 x41 hx41 x42 hx42 x43 hx43 x44 hx44 x45 hx45 hV) kVX0_120 rfl rfl rfl ⟨(Nat.le_of_ble_eq_true rfl), (Nat.le_of_ble_eq_true rfl)⟩ ⟨hB.1, hB.2⟩ rfl ⟨zcs_0, (Nat.le_of_ble_eq_true rfl)⟩ hL.1.1 dL_law_484) ?_
            rintro x46 G8 _ _ hx46 hV hG
            refine z_istore (lv' := [(6, .int (zI x46)), (5, .int (zI x40)), (0, .ref b), (1, .ref (zA P 0 0 0)), (2, .ref (zA P 5 0 0)), (3, .ref (zA P 6 1 0)), (4, .int (zI a23_4))]) hC hL (by decide) rfl dL_law_487 (fun ls hL => ?_)
            refine z_aload_n hC zvr_a rfl (hL.at 4 rfl) dL_law_489 ?_
            refine z_call_i hG (zrunV (ci := 6) hC hG (Nat.le_of_ble_eq_true rfl) (Nat.le_of_ble_eq_true rfl) (zobj hG rfl (Nat.le_of_ble_eq_true rfl) (Nat.le_of_ble_eq_true rfl)) (mX6_thrown l P G8 hV) kVX0_107 rfl rfl rfl ⟨(Nat.le_of_ble_eq_true rfl), (Nat.le_of_ble_eq_true rfl)⟩ ⟨hB.1, hB.2⟩ rfl ⟨zcs_0, (Nat.le_of_ble_eq_true rfl)⟩ hL.1.1 dL_law_490) ?_
            rintro x47 _ _ _ hx47 ⟨rfl, hV⟩ hG
            refine z_iload hC (hL.at 1 rfl) dL_law_493 ?_
            refine z_icmp_eq (tgt := 500) hC hx47 hx40 hV dL_law_495 (by decide) ?_ ?_
            · intro hV
              refine z_iload hC (hL.at 1 rfl) dL_law_500 ?_
              obtain ⟨J517, eJ517, hV⟩ := zjn_abs hV
              have hJ517 : ∀ {H : Heap} {locs : List Loc}, zS P s G8 H locs → J517 () → ∀ (ls : Array Slot), zL ls 7 [(0, .ref b), (1, .ref (zA P 0 0 0)), (2, .ref (zA P 5 0 0)), (3, .ref (zA P 6 1 0)), (4, .int (zI a23_4))] → W p l e ({ frames := 8192, cells := mc, slots := ms, locals := 104096 } : Room) s m args below meth c H locs (kc + 60) (ks + 600) Z (F0 m 517 ls []) := by
                intro H locs hG hV ls hL
                rw [eJ517] at hV
                refine z_goto (tgt := 2081) hC dL_law_517 (by decide) ?_
                exact hJ2081 G8 (kc + 60) (ks + 600) hB hV _ _ _ hG hL
              refine z_if_ne (tgt := 517) hC hx40 hV dL_law_502 (by decide) ?_ ?_
              · intro hV
                exact hJ517 hG hV _ (hL.sub [2, 3, 4, 5, 6] rfl)
              · intro hV
                refine z_aload_n hC zvr_a rfl (hL.at 5 rfl) dL_law_505 ?_
                refine z_iconst hC dL_law_506 ?_
                refine z_outL hC hG hV dL_law_507 ?_
                intro x48 hx48 hV
                refine z_iload hC (hL.at 0 rfl) dL_law_508 ?_
                refine z_i2l hC hx46 dL_law_510 ?_
                refine z_lcmp hC hx48 hx46 dL_law_511 ?_
                refine z_if_eq (tgt := 517) hC (zcmp_in _ _) hV dL_law_512 (by decide) ?_ ?_
                · intro hV
                  exact hJ517 hG hV _ (hL.sub [2, 3, 4, 5, 6] rfl)
                · intro hV
                  refine z_iconst hC dL_law_515 ?_
                  exact hV.elim
            · intro hV
              refine z_iconst hC dL_law_498 ?_
              exact hV.elim
          ·
            refine z_case (x := bAnd x1 31) (v := 4) hV (fun hc4 hV => ?_) (fun hd4 hV => ?_)
            · refine z_tsw (tgt := 520) hC (inR_toInt _) dL_law_40 (by rw [hc4]; decide) (fun i hi => by simp only [List.size_toArray, List.length_cons, List.length_nil]; omega) ?_
              refine z_aload_n hC zvr_a rfl (hL.at 1 rfl) dL_law_520 ?_
              refine z_aload_n hC zvr_a rfl (hL.at 3 rfl) dL_law_521 ?_
              obtain ⟨hB, hV⟩ := hV
              refine z_call_i hG (z_runSW hC hG (mX0_any l P K23 hst hV) kWX0_121 rfl rfl rfl ⟨(Nat.le_of_ble_eq_true rfl), (Nat.le_of_ble_eq_true rfl)⟩ ⟨hB.1, hB.2⟩ rfl ⟨zcs_0, (Nat.le_of_ble_eq_true rfl)⟩ hL.1.1 dL_law_522) ?_
              rintro x49 G9 _ _ hx49 hV hG
              refine z_istore (lv' := [(5, .int (zI x49)), (0, .ref b), (1, .ref (zA P 0 0 0)), (2, .ref (zA P 5 0 0)), (3, .ref (zA P 6 1 0)), (4, .int (zI a23_4))]) hC hL (by decide) rfl dL_law_525 (fun ls hL => ?_)
              refine z_aload_n hC zvr_a rfl (hL.at 3 rfl) dL_law_527 ?_
              refine z_call_i hG (zrunV (ci := 6) hC hG (Nat.le_of_ble_eq_true rfl) (Nat.le_of_ble_eq_true rfl) (zobj hG rfl (Nat.le_of_ble_eq_true rfl) (Nat.le_of_ble_eq_true rfl)) (mX6_any l P G9 hV) kVX0_124 rfl rfl rfl ⟨(Nat.le_of_ble_eq_true rfl), (Nat.le_of_ble_eq_true rfl)⟩ ⟨hB.1, hB.2⟩ rfl ⟨zcs_0, (Nat.le_of_ble_eq_true rfl)⟩ hL.1.1 dL_law_528) ?_
              rintro x50 G10 _ _ hx50 hV hG
              refine z_istore (lv' := [(6, .int (zI x50)), (5, .int (zI x49)), (0, .ref b), (1, .ref (zA P 0 0 0)), (2, .ref (zA P 5 0 0)), (3, .ref (zA P 6 1 0)), (4, .int (zI a23_4))]) hC hL (by decide) rfl dL_law_531 (fun ls hL => ?_)
              refine z_aload_n hC zvr_a rfl (hL.at 4 rfl) dL_law_533 ?_
              refine z_call_i hG (zrunV (ci := 6) hC hG (Nat.le_of_ble_eq_true rfl) (Nat.le_of_ble_eq_true rfl) (zobj hG rfl (Nat.le_of_ble_eq_true rfl) (Nat.le_of_ble_eq_true rfl)) (mX6_thrown l P G10 hV) kVX0_107 rfl rfl rfl ⟨(Nat.le_of_ble_eq_true rfl), (Nat.le_of_ble_eq_true rfl)⟩ ⟨hB.1, hB.2⟩ rfl ⟨zcs_0, (Nat.le_of_ble_eq_true rfl)⟩ hL.1.1 dL_law_534) ?_
              rintro x51 _ _ _ hx51 ⟨rfl, hV⟩ hG
              refine z_iload hC (hL.at 1 rfl) dL_law_537 ?_
              refine z_icmp_eq (tgt := 544) hC hx51 hx49 hV dL_law_539 (by decide) ?_ ?_
              · intro hV
                refine z_iload hC (hL.at 1 rfl) dL_law_544 ?_
                obtain ⟨J561, eJ561, hV⟩ := zjn_abs hV
                have hJ561 : ∀ {H : Heap} {locs : List Loc}, zS P s G10 H locs → J561 () → ∀ (ls : Array Slot), zL ls 7 [(0, .ref b), (1, .ref (zA P 0 0 0)), (2, .ref (zA P 5 0 0)), (3, .ref (zA P 6 1 0)), (4, .int (zI a23_4))] → W p l e ({ frames := 8192, cells := mc, slots := ms, locals := 104096 } : Room) s m args below meth c H locs (kc + 5) (ks + 119) Z (F0 m 561 ls []) := by
                  intro H locs hG hV ls hL
                  rw [eJ561] at hV
                  refine z_goto (tgt := 2081) hC dL_law_561 (by decide) ?_
                  exact hJ2081 G10 (kc + 5) (ks + 119) hB hV _ _ _ hG hL
                refine z_if_ne (tgt := 561) hC hx49 hV dL_law_546 (by decide) ?_ ?_
                · intro hV
                  exact hJ561 hG hV _ (hL.sub [2, 3, 4, 5, 6] rfl)
                · intro hV
                  refine z_aload_n hC zvr_a rfl (hL.at 5 rfl) dL_law_549 ?_
                  refine z_iconst hC dL_law_550 ?_
                  refine z_outL hC hG hV dL_law_551 ?_
                  intro x52 hx52 hV
                  refine z_iload hC (hL.at 0 rfl) dL_law_552 ?_
                  refine z_i2l hC hx50 dL_law_554 ?_
                  refine z_lcmp hC hx52 hx50 dL_law_555 ?_
                  refine z_if_eq (tgt := 561) hC (zcmp_in _ _) hV dL_law_556 (by decide) ?_ ?_
                  · intro hV
                    exact hJ561 hG hV _ (hL.sub [2, 3, 4, 5, 6] rfl)
                  · intro hV
                    refine z_iconst hC dL_law_559 ?_
                    exact hV.elim
              · intro hV
                refine z_iconst hC dL_law_542 ?_
                exact hV.elim
            ·
              refine z_case (x := bAnd x1 31) (v := 5) hV (fun hc5 hV => ?_) (fun hd5 hV => ?_)
              · refine z_tsw (tgt := 564) hC (inR_toInt _) dL_law_40 (by rw [hc5]; decide) (fun i hi => by simp only [List.size_toArray, List.length_cons, List.length_nil]; omega) ?_
                refine z_aload_n hC zvr_a rfl (hL.at 1 rfl) dL_law_564 ?_
                refine z_aload_n hC zvr_a rfl (hL.at 0 rfl) dL_law_565 ?_
                refine z_iload hC (hL.at 4 rfl) dL_law_566 ?_
                refine z_iconst hC dL_law_568 ?_
                refine z_iadd hC dL_law_569 ?_
                refine z_sld hC hG hX (inR_w _) hV dL_law_570 ?_
                intro x53 hx53 hV
                refine z_aload_n hC zvr_a rfl (hL.at 0 rfl) dL_law_571 ?_
                refine z_iload hC (hL.at 4 rfl) dL_law_572 ?_
                refine z_iconst hC dL_law_574 ?_
                refine z_iadd hC dL_law_575 ?_
                refine z_sld hC hG hX (inR_w _) hV dL_law_576 ?_
                intro x54 hx54 hV
                refine z_aload_n hC zvr_a rfl (hL.at 3 rfl) dL_law_577 ?_
                obtain ⟨hB, hV⟩ := hV
                refine z_call_i hG (z_runSW hC hG (mX0_name l P K23 x53 hx53 x54 hx54 hst hV) kWX0_125 rfl rfl rfl ⟨(Nat.le_of_ble_eq_true rfl), (Nat.le_of_ble_eq_true rfl)⟩ ⟨hB.1, hB.2⟩ rfl ⟨zcs_0, (Nat.le_of_ble_eq_true rfl)⟩ hL.1.1 dL_law_578) ?_
                rintro x55 G11 _ _ hx55 hV hG
                refine z_istore (lv' := [(5, .int (zI x55)), (0, .ref b), (1, .ref (zA P 0 0 0)), (2, .ref (zA P 5 0 0)), (3, .ref (zA P 6 1 0)), (4, .int (zI a23_4))]) hC hL (by decide) rfl dL_law_581 (fun ls hL => ?_)
                refine z_aload_n hC zvr_a rfl (hL.at 3 rfl) dL_law_583 ?_
                refine z_aload_n hC zvr_a rfl (hL.at 1 rfl) dL_law_584 ?_
                refine z_iload hC (hL.at 5 rfl) dL_law_585 ?_
                refine z_iconst hC dL_law_587 ?_
                refine z_iadd hC dL_law_588 ?_
                refine z_sld hC hG hX (inR_w _) hV dL_law_589 ?_
                intro x56 hx56 hV
                refine z_aload_n hC zvr_a rfl (hL.at 1 rfl) dL_law_590 ?_
                refine z_iload hC (hL.at 5 rfl) dL_law_591 ?_
                refine z_iconst hC dL_law_593 ?_
                refine z_iadd hC dL_law_594 ?_
                refine z_sld hC hG hX (inR_w _) hV dL_law_595 ?_
                intro x57 hx57 hV
                refine z_call_i hG (zrunV (ci := 6) hC hG (Nat.le_of_ble_eq_true rfl) (Nat.le_of_ble_eq_true rfl) (zobj hG rfl (Nat.le_of_ble_eq_true rfl) (Nat.le_of_ble_eq_true rfl)) (mX6_name l P G11 x56 hx56 x57 hx57 hV) kVX0_128 rfl rfl rfl ⟨(Nat.le_of_ble_eq_true rfl), (Nat.le_of_ble_eq_true rfl)⟩ ⟨hB.1, hB.2⟩ rfl ⟨zcs_0, (Nat.le_of_ble_eq_true rfl)⟩ hL.1.1 dL_law_596) ?_
                rintro x58 G12 _ _ hx58 hV hG
                refine z_istore (lv' := [(6, .int (zI x58)), (5, .int (zI x55)), (0, .ref b), (1, .ref (zA P 0 0 0)), (2, .ref (zA P 5 0 0)), (3, .ref (zA P 6 1 0)), (4, .int (zI a23_4))]) hC hL (by decide) rfl dL_law_599 (fun ls hL => ?_)
                refine z_aload_n hC zvr_a rfl (hL.at 4 rfl) dL_law_601 ?_
                refine z_call_i hG (zrunV (ci := 6) hC hG (Nat.le_of_ble_eq_true rfl) (Nat.le_of_ble_eq_true rfl) (zobj hG rfl (Nat.le_of_ble_eq_true rfl) (Nat.le_of_ble_eq_true rfl)) (mX6_thrown l P G12 hV) kVX0_107 rfl rfl rfl ⟨(Nat.le_of_ble_eq_true rfl), (Nat.le_of_ble_eq_true rfl)⟩ ⟨hB.1, hB.2⟩ rfl ⟨zcs_0, (Nat.le_of_ble_eq_true rfl)⟩ hL.1.1 dL_law_602) ?_
                rintro x59 _ _ _ hx59 ⟨rfl, hV⟩ hG
                refine z_iload hC (hL.at 1 rfl) dL_law_605 ?_
                refine z_icmp_eq (tgt := 612) hC hx59 hx55 hV dL_law_607 (by decide) ?_ ?_
                · intro hV
                  refine z_iload hC (hL.at 1 rfl) dL_law_612 ?_
                  obtain ⟨J629, eJ629, hV⟩ := zjn_abs hV
                  have hJ629 : ∀ {H : Heap} {locs : List Loc}, zS P s G12 H locs → J629 () → ∀ (ls : Array Slot), zL ls 7 [(0, .ref b), (1, .ref (zA P 0 0 0)), (2, .ref (zA P 5 0 0)), (3, .ref (zA P 6 1 0)), (4, .int (zI a23_4))] → W p l e ({ frames := 8192, cells := mc, slots := ms, locals := 104096 } : Room) s m args below meth c H locs (kc + 8) (ks + 139) Z (F0 m 629 ls []) := by
                    intro H locs hG hV ls hL
                    rw [eJ629] at hV
                    refine z_goto (tgt := 2081) hC dL_law_629 (by decide) ?_
                    exact hJ2081 G12 (kc + 8) (ks + 139) hB hV _ _ _ hG hL
                  refine z_if_ne (tgt := 629) hC hx55 hV dL_law_614 (by decide) ?_ ?_
                  · intro hV
                    exact hJ629 hG hV _ (hL.sub [2, 3, 4, 5, 6] rfl)
                  · intro hV
                    refine z_aload_n hC zvr_a rfl (hL.at 5 rfl) dL_law_617 ?_
                    refine z_iconst hC dL_law_618 ?_
                    refine z_outL hC hG hV dL_law_619 ?_
                    intro x60 hx60 hV
                    refine z_iload hC (hL.at 0 rfl) dL_law_620 ?_
                    refine z_i2l hC hx58 dL_law_622 ?_
                    refine z_lcmp hC hx60 hx58 dL_law_623 ?_
                    refine z_if_eq (tgt := 629) hC (zcmp_in _ _) hV dL_law_624 (by decide) ?_ ?_
                    · intro hV
                      exact hJ629 hG hV _ (hL.sub [2, 3, 4, 5, 6] rfl)
                    · intro hV
                      refine z_iconst hC dL_law_627 ?_
                      exact hV.elim
                · intro hV
                  refine z_iconst hC dL_law_610 ?_
                  exact hV.elim
              ·
                refine z_case (x := bAnd x1 31) (v := 6) hV (fun hc6 hV => ?_) (fun hd6 hV => ?_)
                · refine z_tsw (tgt := 632) hC (inR_toInt _) dL_law_40 (by rw [hc6]; decide) (fun i hi => by simp only [List.size_toArray, List.length_cons, List.length_nil]; omega) ?_
                  refine z_aload_n hC zvr_a rfl (hL.at 1 rfl) dL_law_632 ?_
                  refine z_aload_n hC zvr_a rfl (hL.at 0 rfl) dL_law_633 ?_
                  refine z_iload hC (hL.at 4 rfl) dL_law_634 ?_
                  refine z_iconst hC dL_law_636 ?_
                  refine z_iadd hC dL_law_637 ?_
                  refine z_sld hC hG hX (inR_w _) hV dL_law_638 ?_
                  intro x61 hx61 hV
                  refine z_aload_n hC zvr_a rfl (hL.at 0 rfl) dL_law_639 ?_
                  refine z_iload hC (hL.at 4 rfl) dL_law_640 ?_
                  refine z_iconst hC dL_law_642 ?_
                  refine z_iadd hC dL_law_643 ?_
                  refine z_sld hC hG hX (inR_w _) hV dL_law_644 ?_
                  intro x62 hx62 hV
                  refine z_aload_n hC zvr_a rfl (hL.at 3 rfl) dL_law_645 ?_
                  obtain ⟨hB, hV⟩ := hV
                  refine z_call_i hG (z_runSW hC hG (mX0_range l P K23 x61 hx61 x62 hx62 hst hV) kWX0_129 rfl rfl rfl ⟨(Nat.le_of_ble_eq_true rfl), (Nat.le_of_ble_eq_true rfl)⟩ ⟨hB.1, hB.2⟩ rfl ⟨zcs_0, (Nat.le_of_ble_eq_true rfl)⟩ hL.1.1 dL_law_646) ?_
                  rintro x63 G13 _ _ hx63 hV hG
                  refine z_istore (lv' := [(5, .int (zI x63)), (0, .ref b), (1, .ref (zA P 0 0 0)), (2, .ref (zA P 5 0 0)), (3, .ref (zA P 6 1 0)), (4, .int (zI a23_4))]) hC hL (by decide) rfl dL_law_649 (fun ls hL => ?_)
                  refine z_aload_n hC zvr_a rfl (hL.at 3 rfl) dL_law_651 ?_
                  refine z_aload_n hC zvr_a rfl (hL.at 1 rfl) dL_law_652 ?_
                  refine z_iload hC (hL.at 5 rfl) dL_law_653 ?_
                  refine z_iconst hC dL_law_655 ?_
                  refine z_iadd hC dL_law_656 ?_
                  refine z_sld hC hG hX (inR_w _) hV dL_law_657 ?_
                  intro x64 hx64 hV
                  refine z_aload_n hC zvr_a rfl (hL.at 1 rfl) dL_law_658 ?_
                  refine z_iload hC (hL.at 5 rfl) dL_law_659 ?_
                  refine z_iconst hC dL_law_661 ?_
                  refine z_iadd hC dL_law_662 ?_
                  refine z_sld hC hG hX (inR_w _) hV dL_law_663 ?_
                  intro x65 hx65 hV
                  refine z_call_i hG (zrunV (ci := 6) hC hG (Nat.le_of_ble_eq_true rfl) (Nat.le_of_ble_eq_true rfl) (zobj hG rfl (Nat.le_of_ble_eq_true rfl) (Nat.le_of_ble_eq_true rfl)) (mX6_range l P G13 x64 hx64 x65 hx65 hV) kVX0_131 rfl rfl rfl ⟨(Nat.le_of_ble_eq_true rfl), (Nat.le_of_ble_eq_true rfl)⟩ ⟨hB.1, hB.2⟩ rfl ⟨zcs_0, (Nat.le_of_ble_eq_true rfl)⟩ hL.1.1 dL_law_664) ?_
                  rintro x66 G14 _ _ hx66 hV hG
                  refine z_istore (lv' := [(6, .int (zI x66)), (5, .int (zI x63)), (0, .ref b), (1, .ref (zA P 0 0 0)), (2, .ref (zA P 5 0 0)), (3, .ref (zA P 6 1 0)), (4, .int (zI a23_4))]) hC hL (by decide) rfl dL_law_667 (fun ls hL => ?_)
                  refine z_aload_n hC zvr_a rfl (hL.at 4 rfl) dL_law_669 ?_
                  refine z_call_i hG (zrunV (ci := 6) hC hG (Nat.le_of_ble_eq_true rfl) (Nat.le_of_ble_eq_true rfl) (zobj hG rfl (Nat.le_of_ble_eq_true rfl) (Nat.le_of_ble_eq_true rfl)) (mX6_thrown l P G14 hV) kVX0_107 rfl rfl rfl ⟨(Nat.le_of_ble_eq_true rfl), (Nat.le_of_ble_eq_true rfl)⟩ ⟨hB.1, hB.2⟩ rfl ⟨zcs_0, (Nat.le_of_ble_eq_true rfl)⟩ hL.1.1 dL_law_670) ?_
                  rintro x67 _ _ _ hx67 ⟨rfl, hV⟩ hG
                  refine z_iload hC (hL.at 1 rfl) dL_law_673 ?_
                  refine z_icmp_eq (tgt := 680) hC hx67 hx63 hV dL_law_675 (by decide) ?_ ?_
                  · intro hV
                    refine z_iload hC (hL.at 1 rfl) dL_law_680 ?_
                    obtain ⟨J697, eJ697, hV⟩ := zjn_abs hV
                    have hJ697 : ∀ {H : Heap} {locs : List Loc}, zS P s G14 H locs → J697 () → ∀ (ls : Array Slot), zL ls 7 [(0, .ref b), (1, .ref (zA P 0 0 0)), (2, .ref (zA P 5 0 0)), (3, .ref (zA P 6 1 0)), (4, .int (zI a23_4))] → W p l e ({ frames := 8192, cells := mc, slots := ms, locals := 104096 } : Room) s m args below meth c H locs (kc + 6) (ks + 127) Z (F0 m 697 ls []) := by
                      intro H locs hG hV ls hL
                      rw [eJ697] at hV
                      refine z_goto (tgt := 2081) hC dL_law_697 (by decide) ?_
                      exact hJ2081 G14 (kc + 6) (ks + 127) hB hV _ _ _ hG hL
                    refine z_if_ne (tgt := 697) hC hx63 hV dL_law_682 (by decide) ?_ ?_
                    · intro hV
                      exact hJ697 hG hV _ (hL.sub [2, 3, 4, 5, 6] rfl)
                    · intro hV
                      refine z_aload_n hC zvr_a rfl (hL.at 5 rfl) dL_law_685 ?_
                      refine z_iconst hC dL_law_686 ?_
                      refine z_outL hC hG hV dL_law_687 ?_
                      intro x68 hx68 hV
                      refine z_iload hC (hL.at 0 rfl) dL_law_688 ?_
                      refine z_i2l hC hx66 dL_law_690 ?_
                      refine z_lcmp hC hx68 hx66 dL_law_691 ?_
                      refine z_if_eq (tgt := 697) hC (zcmp_in _ _) hV dL_law_692 (by decide) ?_ ?_
                      · intro hV
                        exact hJ697 hG hV _ (hL.sub [2, 3, 4, 5, 6] rfl)
                      · intro hV
                        refine z_iconst hC dL_law_695 ?_
                        exact hV.elim
                  · intro hV
                    refine z_iconst hC dL_law_678 ?_
                    exact hV.elim
                ·
                  refine z_case (x := bAnd x1 31) (v := 7) hV (fun hc7 hV => ?_) (fun hd7 hV => ?_)
                  · refine z_tsw (tgt := 700) hC (inR_toInt _) dL_law_40 (by rw [hc7]; decide) (fun i hi => by simp only [List.size_toArray, List.length_cons, List.length_nil]; omega) ?_
                    refine z_aload_n hC zvr_a rfl (hL.at 1 rfl) dL_law_700 ?_
                    refine z_aload_n hC zvr_a rfl (hL.at 0 rfl) dL_law_701 ?_
                    refine z_iload hC (hL.at 4 rfl) dL_law_702 ?_
                    refine z_iconst hC dL_law_704 ?_
                    refine z_iadd hC dL_law_705 ?_
                    refine z_sld hC hG hX (inR_w _) hV dL_law_706 ?_
                    intro x69 hx69 hV
                    refine z_aload_n hC zvr_a rfl (hL.at 0 rfl) dL_law_707 ?_
                    refine z_iload hC (hL.at 4 rfl) dL_law_708 ?_
                    refine z_iconst hC dL_law_710 ?_
                    refine z_iadd hC dL_law_711 ?_
                    refine z_sld hC hG hX (inR_w _) hV dL_law_712 ?_
                    intro x70 hx70 hV
                    refine z_aload_n hC zvr_a rfl (hL.at 0 rfl) dL_law_713 ?_
                    refine z_iload hC (hL.at 4 rfl) dL_law_714 ?_
                    refine z_iconst hC dL_law_716 ?_
                    refine z_iadd hC dL_law_717 ?_
                    refine z_sld hC hG hX (inR_w _) hV dL_law_718 ?_
                    intro x71 hx71 hV
                    refine z_aload_n hC zvr_a rfl (hL.at 0 rfl) dL_law_719 ?_
                    refine z_iload hC (hL.at 4 rfl) dL_law_720 ?_
                    refine z_iconst hC dL_law_722 ?_
                    refine z_iadd hC dL_law_723 ?_
                    refine z_sld hC hG hX (inR_w _) hV dL_law_724 ?_
                    intro x72 hx72 hV
                    refine z_aload_n hC zvr_a rfl (hL.at 0 rfl) dL_law_725 ?_
                    refine z_iload hC (hL.at 4 rfl) dL_law_726 ?_
                    refine z_iconst hC dL_law_728 ?_
                    refine z_iadd hC dL_law_729 ?_
                    refine z_sld hC hG hX (inR_w _) hV dL_law_730 ?_
                    intro x73 hx73 hV
                    refine z_aload_n hC zvr_a rfl (hL.at 3 rfl) dL_law_731 ?_
                    obtain ⟨hB, hV⟩ := hV
                    refine z_call_i hG (z_runSW hC hG (mX0_make l P K23 x69 hx69 x70 hx70 x71 hx71 x72 hx72 x73 hx73 hst hV) kWX0_132 rfl rfl rfl ⟨(Nat.le_of_ble_eq_true rfl), (Nat.le_of_ble_eq_true rfl)⟩ ⟨hB.1, hB.2⟩ rfl ⟨zcs_0, (Nat.le_of_ble_eq_true rfl)⟩ hL.1.1 dL_law_732) ?_
                    rintro x74 G15 _ _ hx74 hV hG
                    refine z_istore (lv' := [(5, .int (zI x74)), (0, .ref b), (1, .ref (zA P 0 0 0)), (2, .ref (zA P 5 0 0)), (3, .ref (zA P 6 1 0)), (4, .int (zI a23_4))]) hC hL (by decide) rfl dL_law_735 (fun ls hL => ?_)
                    refine z_aload_n hC zvr_a rfl (hL.at 3 rfl) dL_law_737 ?_
                    refine z_aload_n hC zvr_a rfl (hL.at 1 rfl) dL_law_738 ?_
                    refine z_iload hC (hL.at 5 rfl) dL_law_739 ?_
                    refine z_iconst hC dL_law_741 ?_
                    refine z_iadd hC dL_law_742 ?_
                    refine z_sld hC hG hX (inR_w _) hV dL_law_743 ?_
                    intro x75 hx75 hV
                    refine z_aload_n hC zvr_a rfl (hL.at 1 rfl) dL_law_744 ?_
                    refine z_iload hC (hL.at 5 rfl) dL_law_745 ?_
                    refine z_iconst hC dL_law_747 ?_
                    refine z_iadd hC dL_law_748 ?_
                    refine z_sld hC hG hX (inR_w _) hV dL_law_749 ?_
                    intro x76 hx76 hV
                    refine z_aload_n hC zvr_a rfl (hL.at 1 rfl) dL_law_750 ?_
                    refine z_iload hC (hL.at 5 rfl) dL_law_751 ?_
                    refine z_iconst hC dL_law_753 ?_
                    refine z_iadd hC dL_law_754 ?_
                    refine z_sld hC hG hX (inR_w _) hV dL_law_755 ?_
                    intro x77 hx77 hV
                    refine z_aload_n hC zvr_a rfl (hL.at 1 rfl) dL_law_756 ?_
                    refine z_iload hC (hL.at 5 rfl) dL_law_757 ?_
                    refine z_iconst hC dL_law_759 ?_
                    refine z_iadd hC dL_law_760 ?_
                    refine z_sld hC hG hX (inR_w _) hV dL_law_761 ?_
                    intro x78 hx78 hV
                    refine z_aload_n hC zvr_a rfl (hL.at 1 rfl) dL_law_762 ?_
                    refine z_iload hC (hL.at 5 rfl) dL_law_763 ?_
                    refine z_iconst hC dL_law_765 ?_
                    refine z_iadd hC dL_law_766 ?_
                    refine z_sld hC hG hX (inR_w _) hV dL_law_767 ?_
                    intro x79 hx79 hV
                    refine z_call_i hG (zrunV (ci := 6) hC hG (Nat.le_of_ble_eq_true rfl) (Nat.le_of_ble_eq_true rfl) (zobj hG rfl (Nat.le_of_ble_eq_true rfl) (Nat.le_of_ble_eq_true rfl)) (mX6_make l P G15 x75 hx75 x76 hx76 x77 hx77 x78 hx78 x79 hx79 hV) kVX0_134 rfl rfl rfl ⟨(Nat.le_of_ble_eq_true rfl), (Nat.le_of_ble_eq_true rfl)⟩ ⟨hB.1, hB.2⟩ rfl ⟨zcs_0, (Nat.le_of_ble_eq_true rfl)⟩ hL.1.1 dL_law_768) ?_
                    rintro x80 G16 _ _ hx80 hV hG
                    refine z_istore (lv' := [(6, .int (zI x80)), (5, .int (zI x74)), (0, .ref b), (1, .ref (zA P 0 0 0)), (2, .ref (zA P 5 0 0)), (3, .ref (zA P 6 1 0)), (4, .int (zI a23_4))]) hC hL (by decide) rfl dL_law_771 (fun ls hL => ?_)
                    refine z_aload_n hC zvr_a rfl (hL.at 4 rfl) dL_law_773 ?_
                    refine z_call_i hG (zrunV (ci := 6) hC hG (Nat.le_of_ble_eq_true rfl) (Nat.le_of_ble_eq_true rfl) (zobj hG rfl (Nat.le_of_ble_eq_true rfl) (Nat.le_of_ble_eq_true rfl)) (mX6_thrown l P G16 hV) kVX0_107 rfl rfl rfl ⟨(Nat.le_of_ble_eq_true rfl), (Nat.le_of_ble_eq_true rfl)⟩ ⟨hB.1, hB.2⟩ rfl ⟨zcs_0, (Nat.le_of_ble_eq_true rfl)⟩ hL.1.1 dL_law_774) ?_
                    rintro x81 _ _ _ hx81 ⟨rfl, hV⟩ hG
                    refine z_iload hC (hL.at 1 rfl) dL_law_777 ?_
                    refine z_icmp_eq (tgt := 784) hC hx81 hx74 hV dL_law_779 (by decide) ?_ ?_
                    · intro hV
                      refine z_iload hC (hL.at 1 rfl) dL_law_784 ?_
                      obtain ⟨J801, eJ801, hV⟩ := zjn_abs hV
                      have hJ801 : ∀ {H : Heap} {locs : List Loc}, zS P s G16 H locs → J801 () → ∀ (ls : Array Slot), zL ls 7 [(0, .ref b), (1, .ref (zA P 0 0 0)), (2, .ref (zA P 5 0 0)), (3, .ref (zA P 6 1 0)), (4, .int (zI a23_4))] → W p l e ({ frames := 8192, cells := mc, slots := ms, locals := 104096 } : Room) s m args below meth c H locs (kc + 20) (ks + 297) Z (F0 m 801 ls []) := by
                        intro H locs hG hV ls hL
                        rw [eJ801] at hV
                        refine z_goto (tgt := 2081) hC dL_law_801 (by decide) ?_
                        exact hJ2081 G16 (kc + 20) (ks + 297) hB hV _ _ _ hG hL
                      refine z_if_ne (tgt := 801) hC hx74 hV dL_law_786 (by decide) ?_ ?_
                      · intro hV
                        exact hJ801 hG hV _ (hL.sub [2, 3, 4, 5, 6] rfl)
                      · intro hV
                        refine z_aload_n hC zvr_a rfl (hL.at 5 rfl) dL_law_789 ?_
                        refine z_iconst hC dL_law_790 ?_
                        refine z_outL hC hG hV dL_law_791 ?_
                        intro x82 hx82 hV
                        refine z_iload hC (hL.at 0 rfl) dL_law_792 ?_
                        refine z_i2l hC hx80 dL_law_794 ?_
                        refine z_lcmp hC hx82 hx80 dL_law_795 ?_
                        refine z_if_eq (tgt := 801) hC (zcmp_in _ _) hV dL_law_796 (by decide) ?_ ?_
                        · intro hV
                          exact hJ801 hG hV _ (hL.sub [2, 3, 4, 5, 6] rfl)
                        · intro hV
                          refine z_iconst hC dL_law_799 ?_
                          exact hV.elim
                    · intro hV
                      refine z_iconst hC dL_law_782 ?_
                      exact hV.elim
                  ·
                    refine z_case (x := bAnd x1 31) (v := 8) hV (fun hc8 hV => ?_) (fun hd8 hV => ?_)
                    · refine z_tsw (tgt := 804) hC (inR_toInt _) dL_law_40 (by rw [hc8]; decide) (fun i hi => by simp only [List.size_toArray, List.length_cons, List.length_nil]; omega) ?_
                      refine z_aload_n hC zvr_a rfl (hL.at 1 rfl) dL_law_804 ?_
                      refine z_aload_n hC zvr_a rfl (hL.at 0 rfl) dL_law_805 ?_
                      refine z_iload hC (hL.at 4 rfl) dL_law_806 ?_
                      refine z_iconst hC dL_law_808 ?_
                      refine z_iadd hC dL_law_809 ?_
                      refine z_sld hC hG hX (inR_w _) hV dL_law_810 ?_
                      intro x83 hx83 hV
                      refine z_aload_n hC zvr_a rfl (hL.at 0 rfl) dL_law_811 ?_
                      refine z_iload hC (hL.at 4 rfl) dL_law_812 ?_
                      refine z_iconst hC dL_law_814 ?_
                      refine z_iadd hC dL_law_815 ?_
                      refine z_sld hC hG hX (inR_w _) hV dL_law_816 ?_
                      intro x84 hx84 hV
                      refine z_aload_n hC zvr_a rfl (hL.at 3 rfl) dL_law_817 ?_
                      obtain ⟨hB, hV⟩ := hV
                      refine z_call_i hG (z_runSW hC hG (mX0_either l P K23 x83 hx83 x84 hx84 hst hV) kWX0_135 rfl rfl rfl ⟨(Nat.le_of_ble_eq_true rfl), (Nat.le_of_ble_eq_true rfl)⟩ ⟨hB.1, hB.2⟩ rfl ⟨zcs_0, (Nat.le_of_ble_eq_true rfl)⟩ hL.1.1 dL_law_818) ?_
                      rintro x85 G17 _ _ hx85 hV hG
                      refine z_istore (lv' := [(5, .int (zI x85)), (0, .ref b), (1, .ref (zA P 0 0 0)), (2, .ref (zA P 5 0 0)), (3, .ref (zA P 6 1 0)), (4, .int (zI a23_4))]) hC hL (by decide) rfl dL_law_821 (fun ls hL => ?_)
                      refine z_aload_n hC zvr_a rfl (hL.at 3 rfl) dL_law_823 ?_
                      refine z_aload_n hC zvr_a rfl (hL.at 1 rfl) dL_law_824 ?_
                      refine z_iload hC (hL.at 5 rfl) dL_law_825 ?_
                      refine z_iconst hC dL_law_827 ?_
                      refine z_iadd hC dL_law_828 ?_
                      refine z_sld hC hG hX (inR_w _) hV dL_law_829 ?_
                      intro x86 hx86 hV
                      refine z_aload_n hC zvr_a rfl (hL.at 1 rfl) dL_law_830 ?_
                      refine z_iload hC (hL.at 5 rfl) dL_law_831 ?_
                      refine z_iconst hC dL_law_833 ?_
                      refine z_iadd hC dL_law_834 ?_
                      refine z_sld hC hG hX (inR_w _) hV dL_law_835 ?_
                      intro x87 hx87 hV
                      refine z_call_i hG (zrunV (ci := 6) hC hG (Nat.le_of_ble_eq_true rfl) (Nat.le_of_ble_eq_true rfl) (zobj hG rfl (Nat.le_of_ble_eq_true rfl) (Nat.le_of_ble_eq_true rfl)) (mX6_either l P G17 x86 hx86 x87 hx87 hV) kVX0_137 rfl rfl rfl ⟨(Nat.le_of_ble_eq_true rfl), (Nat.le_of_ble_eq_true rfl)⟩ ⟨hB.1, hB.2⟩ rfl ⟨zcs_0, (Nat.le_of_ble_eq_true rfl)⟩ hL.1.1 dL_law_836) ?_
                      rintro x88 G18 _ _ hx88 hV hG
                      refine z_istore (lv' := [(6, .int (zI x88)), (5, .int (zI x85)), (0, .ref b), (1, .ref (zA P 0 0 0)), (2, .ref (zA P 5 0 0)), (3, .ref (zA P 6 1 0)), (4, .int (zI a23_4))]) hC hL (by decide) rfl dL_law_839 (fun ls hL => ?_)
                      refine z_aload_n hC zvr_a rfl (hL.at 4 rfl) dL_law_841 ?_
                      refine z_call_i hG (zrunV (ci := 6) hC hG (Nat.le_of_ble_eq_true rfl) (Nat.le_of_ble_eq_true rfl) (zobj hG rfl (Nat.le_of_ble_eq_true rfl) (Nat.le_of_ble_eq_true rfl)) (mX6_thrown l P G18 hV) kVX0_107 rfl rfl rfl ⟨(Nat.le_of_ble_eq_true rfl), (Nat.le_of_ble_eq_true rfl)⟩ ⟨hB.1, hB.2⟩ rfl ⟨zcs_0, (Nat.le_of_ble_eq_true rfl)⟩ hL.1.1 dL_law_842) ?_
                      rintro x89 _ _ _ hx89 ⟨rfl, hV⟩ hG
                      refine z_iload hC (hL.at 1 rfl) dL_law_845 ?_
                      refine z_icmp_eq (tgt := 852) hC hx89 hx85 hV dL_law_847 (by decide) ?_ ?_
                      · intro hV
                        refine z_iload hC (hL.at 1 rfl) dL_law_852 ?_
                        obtain ⟨J869, eJ869, hV⟩ := zjn_abs hV
                        have hJ869 : ∀ {H : Heap} {locs : List Loc}, zS P s G18 H locs → J869 () → ∀ (ls : Array Slot), zL ls 7 [(0, .ref b), (1, .ref (zA P 0 0 0)), (2, .ref (zA P 5 0 0)), (3, .ref (zA P 6 1 0)), (4, .int (zI a23_4))] → W p l e ({ frames := 8192, cells := mc, slots := ms, locals := 104096 } : Room) s m args below meth c H locs (kc + 8) (ks + 139) Z (F0 m 869 ls []) := by
                          intro H locs hG hV ls hL
                          rw [eJ869] at hV
                          refine z_goto (tgt := 2081) hC dL_law_869 (by decide) ?_
                          exact hJ2081 G18 (kc + 8) (ks + 139) hB hV _ _ _ hG hL
                        refine z_if_ne (tgt := 869) hC hx85 hV dL_law_854 (by decide) ?_ ?_
                        · intro hV
                          exact hJ869 hG hV _ (hL.sub [2, 3, 4, 5, 6] rfl)
                        · intro hV
                          refine z_aload_n hC zvr_a rfl (hL.at 5 rfl) dL_law_857 ?_
                          refine z_iconst hC dL_law_858 ?_
                          refine z_outL hC hG hV dL_law_859 ?_
                          intro x90 hx90 hV
                          refine z_iload hC (hL.at 0 rfl) dL_law_860 ?_
                          refine z_i2l hC hx88 dL_law_862 ?_
                          refine z_lcmp hC hx90 hx88 dL_law_863 ?_
                          refine z_if_eq (tgt := 869) hC (zcmp_in _ _) hV dL_law_864 (by decide) ?_ ?_
                          · intro hV
                            exact hJ869 hG hV _ (hL.sub [2, 3, 4, 5, 6] rfl)
                          · intro hV
                            refine z_iconst hC dL_law_867 ?_
                            exact hV.elim
                      · intro hV
                        refine z_iconst hC dL_law_850 ?_
                        exact hV.elim
                    ·
                      refine z_case (x := bAnd x1 31) (v := 9) hV (fun hc9 hV => ?_) (fun hd9 hV => ?_)
                      · refine z_tsw (tgt := 872) hC (inR_toInt _) dL_law_40 (by rw [hc9]; decide) (fun i hi => by simp only [List.size_toArray, List.length_cons, List.length_nil]; omega) ?_
                        refine z_aload_n hC zvr_a rfl (hL.at 1 rfl) dL_law_872 ?_
                        refine z_aload_n hC zvr_a rfl (hL.at 0 rfl) dL_law_873 ?_
                        refine z_iload hC (hL.at 4 rfl) dL_law_874 ?_
                        refine z_iconst hC dL_law_876 ?_
                        refine z_iadd hC dL_law_877 ?_
                        refine z_sld hC hG hX (inR_w _) hV dL_law_878 ?_
                        intro x91 hx91 hV
                        refine z_aload_n hC zvr_a rfl (hL.at 0 rfl) dL_law_879 ?_
                        refine z_iload hC (hL.at 4 rfl) dL_law_880 ?_
                        refine z_iconst hC dL_law_882 ?_
                        refine z_iadd hC dL_law_883 ?_
                        refine z_sld hC hG hX (inR_w _) hV dL_law_884 ?_
                        intro x92 hx92 hV
                        refine z_aload_n hC zvr_a rfl (hL.at 3 rfl) dL_law_885 ?_
                        obtain ⟨hB, hV⟩ := hV
                        refine z_call_i hG (z_runSW hC hG (mX0_view l P K23 x91 hx91 x92 hx92 hst hV) kWX0_138 rfl rfl rfl ⟨(Nat.le_of_ble_eq_true rfl), (Nat.le_of_ble_eq_true rfl)⟩ ⟨hB.1, hB.2⟩ rfl ⟨zcs_0, (Nat.le_of_ble_eq_true rfl)⟩ hL.1.1 dL_law_886) ?_
                        rintro x93 G19 _ _ hx93 hV hG
                        refine z_istore (lv' := [(5, .int (zI x93)), (0, .ref b), (1, .ref (zA P 0 0 0)), (2, .ref (zA P 5 0 0)), (3, .ref (zA P 6 1 0)), (4, .int (zI a23_4))]) hC hL (by decide) rfl dL_law_889 (fun ls hL => ?_)
                        refine z_aload_n hC zvr_a rfl (hL.at 3 rfl) dL_law_891 ?_
                        refine z_aload_n hC zvr_a rfl (hL.at 1 rfl) dL_law_892 ?_
                        refine z_iload hC (hL.at 5 rfl) dL_law_893 ?_
                        refine z_iconst hC dL_law_895 ?_
                        refine z_iadd hC dL_law_896 ?_
                        refine z_sld hC hG hX (inR_w _) hV dL_law_897 ?_
                        intro x94 hx94 hV
                        refine z_aload_n hC zvr_a rfl (hL.at 1 rfl) dL_law_898 ?_
                        refine z_iload hC (hL.at 5 rfl) dL_law_899 ?_
                        refine z_iconst hC dL_law_901 ?_
                        refine z_iadd hC dL_law_902 ?_
                        refine z_sld hC hG hX (inR_w _) hV dL_law_903 ?_
                        intro x95 hx95 hV
                        refine z_call_i hG (zrunV (ci := 6) hC hG (Nat.le_of_ble_eq_true rfl) (Nat.le_of_ble_eq_true rfl) (zobj hG rfl (Nat.le_of_ble_eq_true rfl) (Nat.le_of_ble_eq_true rfl)) (mX6_view l P G19 x94 hx94 x95 hx95 hV) kVX0_140 rfl rfl rfl ⟨(Nat.le_of_ble_eq_true rfl), (Nat.le_of_ble_eq_true rfl)⟩ ⟨hB.1, hB.2⟩ rfl ⟨zcs_0, (Nat.le_of_ble_eq_true rfl)⟩ hL.1.1 dL_law_904) ?_
                        rintro x96 G20 _ _ hx96 hV hG
                        refine z_istore (lv' := [(6, .int (zI x96)), (5, .int (zI x93)), (0, .ref b), (1, .ref (zA P 0 0 0)), (2, .ref (zA P 5 0 0)), (3, .ref (zA P 6 1 0)), (4, .int (zI a23_4))]) hC hL (by decide) rfl dL_law_907 (fun ls hL => ?_)
                        refine z_aload_n hC zvr_a rfl (hL.at 4 rfl) dL_law_909 ?_
                        refine z_call_i hG (zrunV (ci := 6) hC hG (Nat.le_of_ble_eq_true rfl) (Nat.le_of_ble_eq_true rfl) (zobj hG rfl (Nat.le_of_ble_eq_true rfl) (Nat.le_of_ble_eq_true rfl)) (mX6_thrown l P G20 hV) kVX0_107 rfl rfl rfl ⟨(Nat.le_of_ble_eq_true rfl), (Nat.le_of_ble_eq_true rfl)⟩ ⟨hB.1, hB.2⟩ rfl ⟨zcs_0, (Nat.le_of_ble_eq_true rfl)⟩ hL.1.1 dL_law_910) ?_
                        rintro x97 _ _ _ hx97 ⟨rfl, hV⟩ hG
                        refine z_iload hC (hL.at 1 rfl) dL_law_913 ?_
                        refine z_icmp_eq (tgt := 920) hC hx97 hx93 hV dL_law_915 (by decide) ?_ ?_
                        · intro hV
                          refine z_iload hC (hL.at 1 rfl) dL_law_920 ?_
                          obtain ⟨J937, eJ937, hV⟩ := zjn_abs hV
                          have hJ937 : ∀ {H : Heap} {locs : List Loc}, zS P s G20 H locs → J937 () → ∀ (ls : Array Slot), zL ls 7 [(0, .ref b), (1, .ref (zA P 0 0 0)), (2, .ref (zA P 5 0 0)), (3, .ref (zA P 6 1 0)), (4, .int (zI a23_4))] → W p l e ({ frames := 8192, cells := mc, slots := ms, locals := 104096 } : Room) s m args below meth c H locs (kc + 8) (ks + 139) Z (F0 m 937 ls []) := by
                            intro H locs hG hV ls hL
                            rw [eJ937] at hV
                            refine z_goto (tgt := 2081) hC dL_law_937 (by decide) ?_
                            exact hJ2081 G20 (kc + 8) (ks + 139) hB hV _ _ _ hG hL
                          refine z_if_ne (tgt := 937) hC hx93 hV dL_law_922 (by decide) ?_ ?_
                          · intro hV
                            exact hJ937 hG hV _ (hL.sub [2, 3, 4, 5, 6] rfl)
                          · intro hV
                            refine z_aload_n hC zvr_a rfl (hL.at 5 rfl) dL_law_925 ?_
                            refine z_iconst hC dL_law_926 ?_
                            refine z_outL hC hG hV dL_law_927 ?_
                            intro x98 hx98 hV
                            refine z_iload hC (hL.at 0 rfl) dL_law_928 ?_
                            refine z_i2l hC hx96 dL_law_930 ?_
                            refine z_lcmp hC hx98 hx96 dL_law_931 ?_
                            refine z_if_eq (tgt := 937) hC (zcmp_in _ _) hV dL_law_932 (by decide) ?_ ?_
                            · intro hV
                              exact hJ937 hG hV _ (hL.sub [2, 3, 4, 5, 6] rfl)
                            · intro hV
                              refine z_iconst hC dL_law_935 ?_
                              exact hV.elim
                        · intro hV
                          refine z_iconst hC dL_law_918 ?_
                          exact hV.elim
                      ·
                        refine z_case (x := bAnd x1 31) (v := 10) hV (fun hc10 hV => ?_) (fun hd10 hV => ?_)
                        · refine z_tsw (tgt := 940) hC (inR_toInt _) dL_law_40 (by rw [hc10]; decide) (fun i hi => by simp only [List.size_toArray, List.length_cons, List.length_nil]; omega) ?_
                          refine z_aload_n hC zvr_a rfl (hL.at 1 rfl) dL_law_940 ?_
                          refine z_aload_n hC zvr_a rfl (hL.at 0 rfl) dL_law_941 ?_
                          refine z_iload hC (hL.at 4 rfl) dL_law_942 ?_
                          refine z_iconst hC dL_law_944 ?_
                          refine z_iadd hC dL_law_945 ?_
                          refine z_sld hC hG hX (inR_w _) hV dL_law_946 ?_
                          intro x99 hx99 hV
                          refine z_aload_n hC zvr_a rfl (hL.at 0 rfl) dL_law_947 ?_
                          refine z_iload hC (hL.at 4 rfl) dL_law_948 ?_
                          refine z_iconst hC dL_law_950 ?_
                          refine z_iadd hC dL_law_951 ?_
                          refine z_sld hC hG hX (inR_w _) hV dL_law_952 ?_
                          intro x100 hx100 hV
                          refine z_aload_n hC zvr_a rfl (hL.at 0 rfl) dL_law_953 ?_
                          refine z_iload hC (hL.at 4 rfl) dL_law_954 ?_
                          refine z_iconst hC dL_law_956 ?_
                          refine z_iadd hC dL_law_957 ?_
                          refine z_sld hC hG hX (inR_w _) hV dL_law_958 ?_
                          intro x101 hx101 hV
                          refine z_aload_n hC zvr_a rfl (hL.at 0 rfl) dL_law_959 ?_
                          refine z_iload hC (hL.at 4 rfl) dL_law_960 ?_
                          refine z_iconst hC dL_law_962 ?_
                          refine z_iadd hC dL_law_963 ?_
                          refine z_sld hC hG hX (inR_w _) hV dL_law_964 ?_
                          intro x102 hx102 hV
                          refine z_aload_n hC zvr_a rfl (hL.at 3 rfl) dL_law_965 ?_
                          obtain ⟨hB, hV⟩ := hV
                          refine z_call_i hG (z_runSW hC hG (mX0_list l P K23 x99 hx99 x100 hx100 x101 hx101 x102 hx102 hst hV) kWX0_141 rfl rfl rfl ⟨(Nat.le_of_ble_eq_true rfl), (Nat.le_of_ble_eq_true rfl)⟩ ⟨hB.1, hB.2⟩ rfl ⟨zcs_0, (Nat.le_of_ble_eq_true rfl)⟩ hL.1.1 dL_law_966) ?_
                          rintro x103 G21 _ _ hx103 hV hG
                          refine z_istore (lv' := [(5, .int (zI x103)), (0, .ref b), (1, .ref (zA P 0 0 0)), (2, .ref (zA P 5 0 0)), (3, .ref (zA P 6 1 0)), (4, .int (zI a23_4))]) hC hL (by decide) rfl dL_law_969 (fun ls hL => ?_)
                          refine z_aload_n hC zvr_a rfl (hL.at 3 rfl) dL_law_971 ?_
                          refine z_aload_n hC zvr_a rfl (hL.at 1 rfl) dL_law_972 ?_
                          refine z_iload hC (hL.at 5 rfl) dL_law_973 ?_
                          refine z_iconst hC dL_law_975 ?_
                          refine z_iadd hC dL_law_976 ?_
                          refine z_sld hC hG hX (inR_w _) hV dL_law_977 ?_
                          intro x104 hx104 hV
                          refine z_aload_n hC zvr_a rfl (hL.at 1 rfl) dL_law_978 ?_
                          refine z_iload hC (hL.at 5 rfl) dL_law_979 ?_
                          refine z_iconst hC dL_law_981 ?_
                          refine z_iadd hC dL_law_982 ?_
                          refine z_sld hC hG hX (inR_w _) hV dL_law_983 ?_
                          intro x105 hx105 hV
                          refine z_aload_n hC zvr_a rfl (hL.at 1 rfl) dL_law_984 ?_
                          refine z_iload hC (hL.at 5 rfl) dL_law_985 ?_
                          refine z_iconst hC dL_law_987 ?_
                          refine z_iadd hC dL_law_988 ?_
                          refine z_sld hC hG hX (inR_w _) hV dL_law_989 ?_
                          intro x106 hx106 hV
                          refine z_aload_n hC zvr_a rfl (hL.at 1 rfl) dL_law_990 ?_
                          refine z_iload hC (hL.at 5 rfl) dL_law_991 ?_
                          refine z_iconst hC dL_law_993 ?_
                          refine z_iadd hC dL_law_994 ?_
                          refine z_sld hC hG hX (inR_w _) hV dL_law_995 ?_
                          intro x107 hx107 hV
                          refine z_call_i hG (zrunV (ci := 6) hC hG (Nat.le_of_ble_eq_true rfl) (Nat.le_of_ble_eq_true rfl) (zobj hG rfl (Nat.le_of_ble_eq_true rfl) (Nat.le_of_ble_eq_true rfl)) (mX6_list l P G21 x104 hx104 x105 hx105 x106 hx106 x107 hx107 hV) kVX0_143 rfl rfl rfl ⟨(Nat.le_of_ble_eq_true rfl), (Nat.le_of_ble_eq_true rfl)⟩ ⟨hB.1, hB.2⟩ rfl ⟨zcs_0, (Nat.le_of_ble_eq_true rfl)⟩ hL.1.1 dL_law_996) ?_
                          rintro x108 G22 _ _ hx108 hV hG
                          refine z_istore (lv' := [(6, .int (zI x108)), (5, .int (zI x103)), (0, .ref b), (1, .ref (zA P 0 0 0)), (2, .ref (zA P 5 0 0)), (3, .ref (zA P 6 1 0)), (4, .int (zI a23_4))]) hC hL (by decide) rfl dL_law_999 (fun ls hL => ?_)
                          refine z_aload_n hC zvr_a rfl (hL.at 4 rfl) dL_law_1001 ?_
                          refine z_call_i hG (zrunV (ci := 6) hC hG (Nat.le_of_ble_eq_true rfl) (Nat.le_of_ble_eq_true rfl) (zobj hG rfl (Nat.le_of_ble_eq_true rfl) (Nat.le_of_ble_eq_true rfl)) (mX6_thrown l P G22 hV) kVX0_107 rfl rfl rfl ⟨(Nat.le_of_ble_eq_true rfl), (Nat.le_of_ble_eq_true rfl)⟩ ⟨hB.1, hB.2⟩ rfl ⟨zcs_0, (Nat.le_of_ble_eq_true rfl)⟩ hL.1.1 dL_law_1002) ?_
                          rintro x109 _ _ _ hx109 ⟨rfl, hV⟩ hG
                          refine z_iload hC (hL.at 1 rfl) dL_law_1005 ?_
                          refine z_icmp_eq (tgt := 1012) hC hx109 hx103 hV dL_law_1007 (by decide) ?_ ?_
                          · intro hV
                            refine z_iload hC (hL.at 1 rfl) dL_law_1012 ?_
                            obtain ⟨J1029, eJ1029, hV⟩ := zjn_abs hV
                            have hJ1029 : ∀ {H : Heap} {locs : List Loc}, zS P s G22 H locs → J1029 () → ∀ (ls : Array Slot), zL ls 7 [(0, .ref b), (1, .ref (zA P 0 0 0)), (2, .ref (zA P 5 0 0)), (3, .ref (zA P 6 1 0)), (4, .int (zI a23_4))] → W p l e ({ frames := 8192, cells := mc, slots := ms, locals := 104096 } : Room) s m args below meth c H locs (kc + 21) (ks + 298) Z (F0 m 1029 ls []) := by
                              intro H locs hG hV ls hL
                              rw [eJ1029] at hV
                              refine z_goto (tgt := 2081) hC dL_law_1029 (by decide) ?_
                              exact hJ2081 G22 (kc + 21) (ks + 298) hB hV _ _ _ hG hL
                            refine z_if_ne (tgt := 1029) hC hx103 hV dL_law_1014 (by decide) ?_ ?_
                            · intro hV
                              exact hJ1029 hG hV _ (hL.sub [2, 3, 4, 5, 6] rfl)
                            · intro hV
                              refine z_aload_n hC zvr_a rfl (hL.at 5 rfl) dL_law_1017 ?_
                              refine z_iconst hC dL_law_1018 ?_
                              refine z_outL hC hG hV dL_law_1019 ?_
                              intro x110 hx110 hV
                              refine z_iload hC (hL.at 0 rfl) dL_law_1020 ?_
                              refine z_i2l hC hx108 dL_law_1022 ?_
                              refine z_lcmp hC hx110 hx108 dL_law_1023 ?_
                              refine z_if_eq (tgt := 1029) hC (zcmp_in _ _) hV dL_law_1024 (by decide) ?_ ?_
                              · intro hV
                                exact hJ1029 hG hV _ (hL.sub [2, 3, 4, 5, 6] rfl)
                              · intro hV
                                refine z_iconst hC dL_law_1027 ?_
                                exact hV.elim
                          · intro hV
                            refine z_iconst hC dL_law_1010 ?_
                            exact hV.elim
                        ·
                          refine z_case (x := bAnd x1 31) (v := 11) hV (fun hc11 hV => ?_) (fun hd11 hV => ?_)
                          · refine z_tsw (tgt := 1032) hC (inR_toInt _) dL_law_40 (by rw [hc11]; decide) (fun i hi => by simp only [List.size_toArray, List.length_cons, List.length_nil]; omega) ?_
                            refine z_aload_n hC zvr_a rfl (hL.at 1 rfl) dL_law_1032 ?_
                            refine z_aload_n hC zvr_a rfl (hL.at 0 rfl) dL_law_1033 ?_
                            refine z_iload hC (hL.at 4 rfl) dL_law_1034 ?_
                            refine z_iconst hC dL_law_1036 ?_
                            refine z_iadd hC dL_law_1037 ?_
                            refine z_sld hC hG hX (inR_w _) hV dL_law_1038 ?_
                            intro x111 hx111 hV
                            refine z_aload_n hC zvr_a rfl (hL.at 0 rfl) dL_law_1039 ?_
                            refine z_iload hC (hL.at 4 rfl) dL_law_1040 ?_
                            refine z_iconst hC dL_law_1042 ?_
                            refine z_iadd hC dL_law_1043 ?_
                            refine z_sld hC hG hX (inR_w _) hV dL_law_1044 ?_
                            intro x112 hx112 hV
                            refine z_aload_n hC zvr_a rfl (hL.at 0 rfl) dL_law_1045 ?_
                            refine z_iload hC (hL.at 4 rfl) dL_law_1046 ?_
                            refine z_iconst hC dL_law_1048 ?_
                            refine z_iadd hC dL_law_1049 ?_
                            refine z_sld hC hG hX (inR_w _) hV dL_law_1050 ?_
                            intro x113 hx113 hV
                            refine z_aload_n hC zvr_a rfl (hL.at 0 rfl) dL_law_1051 ?_
                            refine z_iload hC (hL.at 4 rfl) dL_law_1052 ?_
                            refine z_iconst hC dL_law_1054 ?_
                            refine z_iadd hC dL_law_1055 ?_
                            refine z_sld hC hG hX (inR_w _) hV dL_law_1056 ?_
                            intro x114 hx114 hV
                            refine z_aload_n hC zvr_a rfl (hL.at 0 rfl) dL_law_1057 ?_
                            refine z_iload hC (hL.at 4 rfl) dL_law_1058 ?_
                            refine z_iconst hC dL_law_1060 ?_
                            refine z_iadd hC dL_law_1061 ?_
                            refine z_sld hC hG hX (inR_w _) hV dL_law_1062 ?_
                            intro x115 hx115 hV
                            refine z_aload_n hC zvr_a rfl (hL.at 3 rfl) dL_law_1063 ?_
                            obtain ⟨hB, hV⟩ := hV
                            refine z_call_i hG (z_runSW hC hG (mX0_setView l P K23 x111 hx111 x112 hx112 x113 hx113 x114 hx114 x115 hx115 hst hV) kWX0_144 rfl rfl rfl ⟨(Nat.le_of_ble_eq_true rfl), (Nat.le_of_ble_eq_true rfl)⟩ ⟨hB.1, hB.2⟩ rfl ⟨zcs_0, (Nat.le_of_ble_eq_true rfl)⟩ hL.1.1 dL_law_1064) ?_
                            rintro x116 G23 _ _ hx116 hV hG
                            refine z_istore (lv' := [(5, .int (zI x116)), (0, .ref b), (1, .ref (zA P 0 0 0)), (2, .ref (zA P 5 0 0)), (3, .ref (zA P 6 1 0)), (4, .int (zI a23_4))]) hC hL (by decide) rfl dL_law_1067 (fun ls hL => ?_)
                            refine z_aload_n hC zvr_a rfl (hL.at 3 rfl) dL_law_1069 ?_
                            refine z_aload_n hC zvr_a rfl (hL.at 1 rfl) dL_law_1070 ?_
                            refine z_iload hC (hL.at 5 rfl) dL_law_1071 ?_
                            refine z_iconst hC dL_law_1073 ?_
                            refine z_iadd hC dL_law_1074 ?_
                            refine z_sld hC hG hX (inR_w _) hV dL_law_1075 ?_
                            intro x117 hx117 hV
                            refine z_aload_n hC zvr_a rfl (hL.at 1 rfl) dL_law_1076 ?_
                            refine z_iload hC (hL.at 5 rfl) dL_law_1077 ?_
                            refine z_iconst hC dL_law_1079 ?_
                            refine z_iadd hC dL_law_1080 ?_
                            refine z_sld hC hG hX (inR_w _) hV dL_law_1081 ?_
                            intro x118 hx118 hV
                            refine z_aload_n hC zvr_a rfl (hL.at 1 rfl) dL_law_1082 ?_
                            refine z_iload hC (hL.at 5 rfl) dL_law_1083 ?_
                            refine z_iconst hC dL_law_1085 ?_
                            refine z_iadd hC dL_law_1086 ?_
                            refine z_sld hC hG hX (inR_w _) hV dL_law_1087 ?_
                            intro x119 hx119 hV
                            refine z_aload_n hC zvr_a rfl (hL.at 1 rfl) dL_law_1088 ?_
                            refine z_iload hC (hL.at 5 rfl) dL_law_1089 ?_
                            refine z_iconst hC dL_law_1091 ?_
                            refine z_iadd hC dL_law_1092 ?_
                            refine z_sld hC hG hX (inR_w _) hV dL_law_1093 ?_
                            intro x120 hx120 hV
                            refine z_aload_n hC zvr_a rfl (hL.at 1 rfl) dL_law_1094 ?_
                            refine z_iload hC (hL.at 5 rfl) dL_law_1095 ?_
                            refine z_iconst hC dL_law_1097 ?_
                            refine z_iadd hC dL_law_1098 ?_
                            refine z_sld hC hG hX (inR_w _) hV dL_law_1099 ?_
                            intro x121 hx121 hV
                            refine z_call_i hG (zrunV (ci := 6) hC hG (Nat.le_of_ble_eq_true rfl) (Nat.le_of_ble_eq_true rfl) (zobj hG rfl (Nat.le_of_ble_eq_true rfl) (Nat.le_of_ble_eq_true rfl)) (mX6_setView l P G23 x117 hx117 x118 hx118 x119 hx119 x120 hx120 x121 hx121 hV) kVX0_146 rfl rfl rfl ⟨(Nat.le_of_ble_eq_true rfl), (Nat.le_of_ble_eq_true rfl)⟩ ⟨hB.1, hB.2⟩ rfl ⟨zcs_0, (Nat.le_of_ble_eq_true rfl)⟩ hL.1.1 dL_law_1100) ?_
                            rintro x122 G24 _ _ hx122 hV hG
                            refine z_istore (lv' := [(6, .int (zI x122)), (5, .int (zI x116)), (0, .ref b), (1, .ref (zA P 0 0 0)), (2, .ref (zA P 5 0 0)), (3, .ref (zA P 6 1 0)), (4, .int (zI a23_4))]) hC hL (by decide) rfl dL_law_1103 (fun ls hL => ?_)
                            refine z_aload_n hC zvr_a rfl (hL.at 4 rfl) dL_law_1105 ?_
                            refine z_call_i hG (zrunV (ci := 6) hC hG (Nat.le_of_ble_eq_true rfl) (Nat.le_of_ble_eq_true rfl) (zobj hG rfl (Nat.le_of_ble_eq_true rfl) (Nat.le_of_ble_eq_true rfl)) (mX6_thrown l P G24 hV) kVX0_107 rfl rfl rfl ⟨(Nat.le_of_ble_eq_true rfl), (Nat.le_of_ble_eq_true rfl)⟩ ⟨hB.1, hB.2⟩ rfl ⟨zcs_0, (Nat.le_of_ble_eq_true rfl)⟩ hL.1.1 dL_law_1106) ?_
                            rintro x123 _ _ _ hx123 ⟨rfl, hV⟩ hG
                            refine z_iload hC (hL.at 1 rfl) dL_law_1109 ?_
                            refine z_icmp_eq (tgt := 1116) hC hx123 hx116 hV dL_law_1111 (by decide) ?_ ?_
                            · intro hV
                              refine z_iload hC (hL.at 1 rfl) dL_law_1116 ?_
                              obtain ⟨J1133, eJ1133, hV⟩ := zjn_abs hV
                              have hJ1133 : ∀ {H : Heap} {locs : List Loc}, zS P s G24 H locs → J1133 () → ∀ (ls : Array Slot), zL ls 7 [(0, .ref b), (1, .ref (zA P 0 0 0)), (2, .ref (zA P 5 0 0)), (3, .ref (zA P 6 1 0)), (4, .int (zI a23_4))] → W p l e ({ frames := 8192, cells := mc, slots := ms, locals := 104096 } : Room) s m args below meth c H locs (kc + 3) (ks + 16) Z (F0 m 1133 ls []) := by
                                intro H locs hG hV ls hL
                                rw [eJ1133] at hV
                                refine z_goto (tgt := 2081) hC dL_law_1133 (by decide) ?_
                                exact hJ2081 G24 (kc + 3) (ks + 16) hB hV _ _ _ hG hL
                              refine z_if_ne (tgt := 1133) hC hx116 hV dL_law_1118 (by decide) ?_ ?_
                              · intro hV
                                exact hJ1133 hG hV _ (hL.sub [2, 3, 4, 5, 6] rfl)
                              · intro hV
                                refine z_aload_n hC zvr_a rfl (hL.at 5 rfl) dL_law_1121 ?_
                                refine z_iconst hC dL_law_1122 ?_
                                refine z_outL hC hG hV dL_law_1123 ?_
                                intro x124 hx124 hV
                                refine z_iload hC (hL.at 0 rfl) dL_law_1124 ?_
                                refine z_i2l hC hx122 dL_law_1126 ?_
                                refine z_lcmp hC hx124 hx122 dL_law_1127 ?_
                                refine z_if_eq (tgt := 1133) hC (zcmp_in _ _) hV dL_law_1128 (by decide) ?_ ?_
                                · intro hV
                                  exact hJ1133 hG hV _ (hL.sub [2, 3, 4, 5, 6] rfl)
                                · intro hV
                                  refine z_iconst hC dL_law_1131 ?_
                                  exact hV.elim
                            · intro hV
                              refine z_iconst hC dL_law_1114 ?_
                              exact hV.elim
                          ·
                            refine z_case (x := bAnd x1 31) (v := 12) hV (fun hc12 hV => ?_) (fun hd12 hV => ?_)
                            · refine z_tsw (tgt := 1136) hC (inR_toInt _) dL_law_40 (by rw [hc12]; decide) (fun i hi => by simp only [List.size_toArray, List.length_cons, List.length_nil]; omega) ?_
                              refine z_aload_n hC zvr_a rfl (hL.at 1 rfl) dL_law_1136 ?_
                              refine z_aload_n hC zvr_a rfl (hL.at 0 rfl) dL_law_1137 ?_
                              refine z_iload hC (hL.at 4 rfl) dL_law_1138 ?_
                              refine z_iconst hC dL_law_1140 ?_
                              refine z_iadd hC dL_law_1141 ?_
                              refine z_sld hC hG hX (inR_w _) hV dL_law_1142 ?_
                              intro x125 hx125 hV
                              refine z_aload_n hC zvr_a rfl (hL.at 0 rfl) dL_law_1143 ?_
                              refine z_iload hC (hL.at 4 rfl) dL_law_1144 ?_
                              refine z_iconst hC dL_law_1146 ?_
                              refine z_iadd hC dL_law_1147 ?_
                              refine z_sld hC hG hX (inR_w _) hV dL_law_1148 ?_
                              intro x126 hx126 hV
                              refine z_aload_n hC zvr_a rfl (hL.at 0 rfl) dL_law_1149 ?_
                              refine z_iload hC (hL.at 4 rfl) dL_law_1150 ?_
                              refine z_iconst hC dL_law_1152 ?_
                              refine z_iadd hC dL_law_1153 ?_
                              refine z_sld hC hG hX (inR_w _) hV dL_law_1154 ?_
                              intro x127 hx127 hV
                              refine z_aload_n hC zvr_a rfl (hL.at 0 rfl) dL_law_1155 ?_
                              refine z_iload hC (hL.at 4 rfl) dL_law_1156 ?_
                              refine z_iconst hC dL_law_1158 ?_
                              refine z_iadd hC dL_law_1159 ?_
                              refine z_sld hC hG hX (inR_w _) hV dL_law_1160 ?_
                              intro x128 hx128 hV
                              refine z_aload_n hC zvr_a rfl (hL.at 3 rfl) dL_law_1161 ?_
                              obtain ⟨hB, hV⟩ := hV
                              refine z_call_i hG (z_runSW hC hG (mX0_begin l P K23 x125 hx125 x126 hx126 x127 hx127 x128 hx128 hst hV) kWX0_147 rfl rfl rfl ⟨(Nat.le_of_ble_eq_true rfl), (Nat.le_of_ble_eq_true rfl)⟩ ⟨hB.1, hB.2⟩ rfl ⟨zcs_0, (Nat.le_of_ble_eq_true rfl)⟩ hL.1.1 dL_law_1162) ?_
                              rintro x129 G25 _ _ hx129 hV hG
                              refine z_istore (lv' := [(5, .int (zI x129)), (0, .ref b), (1, .ref (zA P 0 0 0)), (2, .ref (zA P 5 0 0)), (3, .ref (zA P 6 1 0)), (4, .int (zI a23_4))]) hC hL (by decide) rfl dL_law_1165 (fun ls hL => ?_)
                              refine z_aload_n hC zvr_a rfl (hL.at 3 rfl) dL_law_1167 ?_
                              refine z_aload_n hC zvr_a rfl (hL.at 1 rfl) dL_law_1168 ?_
                              refine z_iload hC (hL.at 5 rfl) dL_law_1169 ?_
                              refine z_iconst hC dL_law_1171 ?_
                              refine z_iadd hC dL_law_1172 ?_
                              refine z_sld hC hG hX (inR_w _) hV dL_law_1173 ?_
                              intro x130 hx130 hV
                              refine z_aload_n hC zvr_a rfl (hL.at 1 rfl) dL_law_1174 ?_
                              refine z_iload hC (hL.at 5 rfl) dL_law_1175 ?_
                              refine z_iconst hC dL_law_1177 ?_
                              refine z_iadd hC dL_law_1178 ?_
                              refine z_sld hC hG hX (inR_w _) hV dL_law_1179 ?_
                              intro x131 hx131 hV
                              refine z_aload_n hC zvr_a rfl (hL.at 1 rfl) dL_law_1180 ?_
                              refine z_iload hC (hL.at 5 rfl) dL_law_1181 ?_
                              refine z_iconst hC dL_law_1183 ?_
                              refine z_iadd hC dL_law_1184 ?_
                              refine z_sld hC hG hX (inR_w _) hV dL_law_1185 ?_
                              intro x132 hx132 hV
                              refine z_aload_n hC zvr_a rfl (hL.at 1 rfl) dL_law_1186 ?_
                              refine z_iload hC (hL.at 5 rfl) dL_law_1187 ?_
                              refine z_iconst hC dL_law_1189 ?_
                              refine z_iadd hC dL_law_1190 ?_
                              refine z_sld hC hG hX (inR_w _) hV dL_law_1191 ?_
                              intro x133 hx133 hV
                              refine z_call_i hG (zrunV (ci := 6) hC hG (Nat.le_of_ble_eq_true rfl) (Nat.le_of_ble_eq_true rfl) (zobj hG rfl (Nat.le_of_ble_eq_true rfl) (Nat.le_of_ble_eq_true rfl)) (mX6_begin l P G25 x130 hx130 x131 hx131 x132 hx132 x133 hx133 hV) kVX0_149 rfl rfl rfl ⟨(Nat.le_of_ble_eq_true rfl), (Nat.le_of_ble_eq_true rfl)⟩ ⟨hB.1, hB.2⟩ rfl ⟨zcs_0, (Nat.le_of_ble_eq_true rfl)⟩ hL.1.1 dL_law_1192) ?_
                              rintro x134 G26 _ _ hx134 hV hG
                              refine z_istore (lv' := [(6, .int (zI x134)), (5, .int (zI x129)), (0, .ref b), (1, .ref (zA P 0 0 0)), (2, .ref (zA P 5 0 0)), (3, .ref (zA P 6 1 0)), (4, .int (zI a23_4))]) hC hL (by decide) rfl dL_law_1195 (fun ls hL => ?_)
                              refine z_aload_n hC zvr_a rfl (hL.at 4 rfl) dL_law_1197 ?_
                              refine z_call_i hG (zrunV (ci := 6) hC hG (Nat.le_of_ble_eq_true rfl) (Nat.le_of_ble_eq_true rfl) (zobj hG rfl (Nat.le_of_ble_eq_true rfl) (Nat.le_of_ble_eq_true rfl)) (mX6_thrown l P G26 hV) kVX0_107 rfl rfl rfl ⟨(Nat.le_of_ble_eq_true rfl), (Nat.le_of_ble_eq_true rfl)⟩ ⟨hB.1, hB.2⟩ rfl ⟨zcs_0, (Nat.le_of_ble_eq_true rfl)⟩ hL.1.1 dL_law_1198) ?_
                              rintro x135 _ _ _ hx135 ⟨rfl, hV⟩ hG
                              refine z_iload hC (hL.at 1 rfl) dL_law_1201 ?_
                              refine z_icmp_eq (tgt := 1208) hC hx135 hx129 hV dL_law_1203 (by decide) ?_ ?_
                              · intro hV
                                refine z_iload hC (hL.at 1 rfl) dL_law_1208 ?_
                                obtain ⟨J1225, eJ1225, hV⟩ := zjn_abs hV
                                have hJ1225 : ∀ {H : Heap} {locs : List Loc}, zS P s G26 H locs → J1225 () → ∀ (ls : Array Slot), zL ls 7 [(0, .ref b), (1, .ref (zA P 0 0 0)), (2, .ref (zA P 5 0 0)), (3, .ref (zA P 6 1 0)), (4, .int (zI a23_4))] → W p l e ({ frames := 8192, cells := mc, slots := ms, locals := 104096 } : Room) s m args below meth c H locs (kc + 1) (ks + 6) Z (F0 m 1225 ls []) := by
                                  intro H locs hG hV ls hL
                                  rw [eJ1225] at hV
                                  refine z_goto (tgt := 2081) hC dL_law_1225 (by decide) ?_
                                  exact hJ2081 G26 (kc + 1) (ks + 6) hB hV _ _ _ hG hL
                                refine z_if_ne (tgt := 1225) hC hx129 hV dL_law_1210 (by decide) ?_ ?_
                                · intro hV
                                  exact hJ1225 hG hV _ (hL.sub [2, 3, 4, 5, 6] rfl)
                                · intro hV
                                  refine z_aload_n hC zvr_a rfl (hL.at 5 rfl) dL_law_1213 ?_
                                  refine z_iconst hC dL_law_1214 ?_
                                  refine z_outL hC hG hV dL_law_1215 ?_
                                  intro x136 hx136 hV
                                  refine z_iload hC (hL.at 0 rfl) dL_law_1216 ?_
                                  refine z_i2l hC hx134 dL_law_1218 ?_
                                  refine z_lcmp hC hx136 hx134 dL_law_1219 ?_
                                  refine z_if_eq (tgt := 1225) hC (zcmp_in _ _) hV dL_law_1220 (by decide) ?_ ?_
                                  · intro hV
                                    exact hJ1225 hG hV _ (hL.sub [2, 3, 4, 5, 6] rfl)
                                  · intro hV
                                    refine z_iconst hC dL_law_1223 ?_
                                    exact hV.elim
                              · intro hV
                                refine z_iconst hC dL_law_1206 ?_
                                exact hV.elim
                            ·
                              refine z_case (x := bAnd x1 31) (v := 13) hV (fun hc13 hV => ?_) (fun hd13 hV => ?_)
                              · refine z_tsw (tgt := 1228) hC (inR_toInt _) dL_law_40 (by rw [hc13]; decide) (fun i hi => by simp only [List.size_toArray, List.length_cons, List.length_nil]; omega) ?_
                                refine z_aload_n hC zvr_a rfl (hL.at 1 rfl) dL_law_1228 ?_
                                refine z_aload_n hC zvr_a rfl (hL.at 0 rfl) dL_law_1229 ?_
                                refine z_iload hC (hL.at 4 rfl) dL_law_1230 ?_
                                refine z_iconst hC dL_law_1232 ?_
                                refine z_iadd hC dL_law_1233 ?_
                                refine z_sld hC hG hX (inR_w _) hV dL_law_1234 ?_
                                intro x137 hx137 hV
                                refine z_aload_n hC zvr_a rfl (hL.at 0 rfl) dL_law_1235 ?_
                                refine z_iload hC (hL.at 4 rfl) dL_law_1236 ?_
                                refine z_iconst hC dL_law_1238 ?_
                                refine z_iadd hC dL_law_1239 ?_
                                refine z_sld hC hG hX (inR_w _) hV dL_law_1240 ?_
                                intro x138 hx138 hV
                                refine z_aload_n hC zvr_a rfl (hL.at 0 rfl) dL_law_1241 ?_
                                refine z_iload hC (hL.at 4 rfl) dL_law_1242 ?_
                                refine z_iconst hC dL_law_1244 ?_
                                refine z_iadd hC dL_law_1245 ?_
                                refine z_sld hC hG hX (inR_w _) hV dL_law_1246 ?_
                                intro x139 hx139 hV
                                refine z_aload_n hC zvr_a rfl (hL.at 0 rfl) dL_law_1247 ?_
                                refine z_iload hC (hL.at 4 rfl) dL_law_1248 ?_
                                refine z_iconst hC dL_law_1250 ?_
                                refine z_iadd hC dL_law_1251 ?_
                                refine z_sld hC hG hX (inR_w _) hV dL_law_1252 ?_
                                intro x140 hx140 hV
                                refine z_aload_n hC zvr_a rfl (hL.at 3 rfl) dL_law_1253 ?_
                                obtain ⟨hB, hV⟩ := hV
                                refine z_call_i hG (z_runSW hC hG (mX0_add l P K23 x137 hx137 x138 hx138 x139 hx139 x140 hx140 hst hV) kWX0_150 rfl rfl rfl ⟨(Nat.le_of_ble_eq_true rfl), (Nat.le_of_ble_eq_true rfl)⟩ ⟨hB.1, hB.2⟩ rfl ⟨zcs_0, (Nat.le_of_ble_eq_true rfl)⟩ hL.1.1 dL_law_1254) ?_
                                rintro x141 G27 _ _ hx141 hV hG
                                refine z_istore (lv' := [(5, .int (zI x141)), (0, .ref b), (1, .ref (zA P 0 0 0)), (2, .ref (zA P 5 0 0)), (3, .ref (zA P 6 1 0)), (4, .int (zI a23_4))]) hC hL (by decide) rfl dL_law_1257 (fun ls hL => ?_)
                                refine z_aload_n hC zvr_a rfl (hL.at 3 rfl) dL_law_1259 ?_
                                refine z_aload_n hC zvr_a rfl (hL.at 1 rfl) dL_law_1260 ?_
                                refine z_iload hC (hL.at 5 rfl) dL_law_1261 ?_
                                refine z_iconst hC dL_law_1263 ?_
                                refine z_iadd hC dL_law_1264 ?_
                                refine z_sld hC hG hX (inR_w _) hV dL_law_1265 ?_
                                intro x142 hx142 hV
                                refine z_aload_n hC zvr_a rfl (hL.at 1 rfl) dL_law_1266 ?_
                                refine z_iload hC (hL.at 5 rfl) dL_law_1267 ?_
                                refine z_iconst hC dL_law_1269 ?_
                                refine z_iadd hC dL_law_1270 ?_
                                refine z_sld hC hG hX (inR_w _) hV dL_law_1271 ?_
                                intro x143 hx143 hV
                                refine z_aload_n hC zvr_a rfl (hL.at 1 rfl) dL_law_1272 ?_
                                refine z_iload hC (hL.at 5 rfl) dL_law_1273 ?_
                                refine z_iconst hC dL_law_1275 ?_
                                refine z_iadd hC dL_law_1276 ?_
                                refine z_sld hC hG hX (inR_w _) hV dL_law_1277 ?_
                                intro x144 hx144 hV
                                refine z_aload_n hC zvr_a rfl (hL.at 1 rfl) dL_law_1278 ?_
                                refine z_iload hC (hL.at 5 rfl) dL_law_1279 ?_
                                refine z_iconst hC dL_law_1281 ?_
                                refine z_iadd hC dL_law_1282 ?_
                                refine z_sld hC hG hX (inR_w _) hV dL_law_1283 ?_
                                intro x145 hx145 hV
                                refine z_call_i hG (zrunV (ci := 6) hC hG (Nat.le_of_ble_eq_true rfl) (Nat.le_of_ble_eq_true rfl) (zobj hG rfl (Nat.le_of_ble_eq_true rfl) (Nat.le_of_ble_eq_true rfl)) (mX6_add l P G27 x142 hx142 x143 hx143 x144 hx144 x145 hx145 hV) kVX0_152 rfl rfl rfl ⟨(Nat.le_of_ble_eq_true rfl), (Nat.le_of_ble_eq_true rfl)⟩ ⟨hB.1, hB.2⟩ rfl ⟨zcs_0, (Nat.le_of_ble_eq_true rfl)⟩ hL.1.1 dL_law_1284) ?_
                                rintro x146 G28 _ _ hx146 hV hG
                                refine z_istore (lv' := [(6, .int (zI x146)), (5, .int (zI x141)), (0, .ref b), (1, .ref (zA P 0 0 0)), (2, .ref (zA P 5 0 0)), (3, .ref (zA P 6 1 0)), (4, .int (zI a23_4))]) hC hL (by decide) rfl dL_law_1287 (fun ls hL => ?_)
                                refine z_aload_n hC zvr_a rfl (hL.at 4 rfl) dL_law_1289 ?_
                                refine z_call_i hG (zrunV (ci := 6) hC hG (Nat.le_of_ble_eq_true rfl) (Nat.le_of_ble_eq_true rfl) (zobj hG rfl (Nat.le_of_ble_eq_true rfl) (Nat.le_of_ble_eq_true rfl)) (mX6_thrown l P G28 hV) kVX0_107 rfl rfl rfl ⟨(Nat.le_of_ble_eq_true rfl), (Nat.le_of_ble_eq_true rfl)⟩ ⟨hB.1, hB.2⟩ rfl ⟨zcs_0, (Nat.le_of_ble_eq_true rfl)⟩ hL.1.1 dL_law_1290) ?_
                                rintro x147 _ _ _ hx147 ⟨rfl, hV⟩ hG
                                refine z_iload hC (hL.at 1 rfl) dL_law_1293 ?_
                                refine z_icmp_eq (tgt := 1300) hC hx147 hx141 hV dL_law_1295 (by decide) ?_ ?_
                                · intro hV
                                  refine z_iload hC (hL.at 1 rfl) dL_law_1300 ?_
                                  obtain ⟨J1317, eJ1317, hV⟩ := zjn_abs hV
                                  have hJ1317 : ∀ {H : Heap} {locs : List Loc}, zS P s G28 H locs → J1317 () → ∀ (ls : Array Slot), zL ls 7 [(0, .ref b), (1, .ref (zA P 0 0 0)), (2, .ref (zA P 5 0 0)), (3, .ref (zA P 6 1 0)), (4, .int (zI a23_4))] → W p l e ({ frames := 8192, cells := mc, slots := ms, locals := 104096 } : Room) s m args below meth c H locs (kc + 11) (ks + 151) Z (F0 m 1317 ls []) := by
                                    intro H locs hG hV ls hL
                                    rw [eJ1317] at hV
                                    refine z_goto (tgt := 2081) hC dL_law_1317 (by decide) ?_
                                    exact hJ2081 G28 (kc + 11) (ks + 151) hB hV _ _ _ hG hL
                                  refine z_if_ne (tgt := 1317) hC hx141 hV dL_law_1302 (by decide) ?_ ?_
                                  · intro hV
                                    exact hJ1317 hG hV _ (hL.sub [2, 3, 4, 5, 6] rfl)
                                  · intro hV
                                    refine z_aload_n hC zvr_a rfl (hL.at 5 rfl) dL_law_1305 ?_
                                    refine z_iconst hC dL_law_1306 ?_
                                    refine z_outL hC hG hV dL_law_1307 ?_
                                    intro x148 hx148 hV
                                    refine z_iload hC (hL.at 0 rfl) dL_law_1308 ?_
                                    refine z_i2l hC hx146 dL_law_1310 ?_
                                    refine z_lcmp hC hx148 hx146 dL_law_1311 ?_
                                    refine z_if_eq (tgt := 1317) hC (zcmp_in _ _) hV dL_law_1312 (by decide) ?_ ?_
                                    · intro hV
                                      exact hJ1317 hG hV _ (hL.sub [2, 3, 4, 5, 6] rfl)
                                    · intro hV
                                      refine z_iconst hC dL_law_1315 ?_
                                      exact hV.elim
                                · intro hV
                                  refine z_iconst hC dL_law_1298 ?_
                                  exact hV.elim
                              ·
                                refine z_case (x := bAnd x1 31) (v := 14) hV (fun hc14 hV => ?_) (fun hd14 hV => ?_)
                                · refine z_tsw (tgt := 1320) hC (inR_toInt _) dL_law_40 (by rw [hc14]; decide) (fun i hi => by simp only [List.size_toArray, List.length_cons, List.length_nil]; omega) ?_
                                  refine z_aload_n hC zvr_a rfl (hL.at 1 rfl) dL_law_1320 ?_
                                  refine z_aload_n hC zvr_a rfl (hL.at 0 rfl) dL_law_1321 ?_
                                  refine z_iload hC (hL.at 4 rfl) dL_law_1322 ?_
                                  refine z_iconst hC dL_law_1324 ?_
                                  refine z_iadd hC dL_law_1325 ?_
                                  refine z_sld hC hG hX (inR_w _) hV dL_law_1326 ?_
                                  intro x149 hx149 hV
                                  refine z_aload_n hC zvr_a rfl (hL.at 0 rfl) dL_law_1327 ?_
                                  refine z_iload hC (hL.at 4 rfl) dL_law_1328 ?_
                                  refine z_iconst hC dL_law_1330 ?_
                                  refine z_iadd hC dL_law_1331 ?_
                                  refine z_sld hC hG hX (inR_w _) hV dL_law_1332 ?_
                                  intro x150 hx150 hV
                                  refine z_aload_n hC zvr_a rfl (hL.at 0 rfl) dL_law_1333 ?_
                                  refine z_iload hC (hL.at 4 rfl) dL_law_1334 ?_
                                  refine z_iconst hC dL_law_1336 ?_
                                  refine z_iadd hC dL_law_1337 ?_
                                  refine z_sld hC hG hX (inR_w _) hV dL_law_1338 ?_
                                  intro x151 hx151 hV
                                  refine z_aload_n hC zvr_a rfl (hL.at 0 rfl) dL_law_1339 ?_
                                  refine z_iload hC (hL.at 4 rfl) dL_law_1340 ?_
                                  refine z_iconst hC dL_law_1342 ?_
                                  refine z_iadd hC dL_law_1343 ?_
                                  refine z_sld hC hG hX (inR_w _) hV dL_law_1344 ?_
                                  intro x152 hx152 hV
                                  refine z_aload_n hC zvr_a rfl (hL.at 3 rfl) dL_law_1345 ?_
                                  obtain ⟨hB, hV⟩ := hV
                                  refine z_call_i hG (z_runSW hC hG (mX0_guard l P K23 x149 hx149 x150 hx150 x151 hx151 x152 hx152 hst hV) kWX0_153 rfl rfl rfl ⟨(Nat.le_of_ble_eq_true rfl), (Nat.le_of_ble_eq_true rfl)⟩ ⟨hB.1, hB.2⟩ rfl ⟨zcs_0, (Nat.le_of_ble_eq_true rfl)⟩ hL.1.1 dL_law_1346) ?_
                                  rintro x153 G29 _ _ hx153 hV hG
                                  refine z_istore (lv' := [(5, .int (zI x153)), (0, .ref b), (1, .ref (zA P 0 0 0)), (2, .ref (zA P 5 0 0)), (3, .ref (zA P 6 1 0)), (4, .int (zI a23_4))]) hC hL (by decide) rfl dL_law_1349 (fun ls hL => ?_)
                                  refine z_aload_n hC zvr_a rfl (hL.at 3 rfl) dL_law_1351 ?_
                                  refine z_aload_n hC zvr_a rfl (hL.at 1 rfl) dL_law_1352 ?_
                                  refine z_iload hC (hL.at 5 rfl) dL_law_1353 ?_
                                  refine z_iconst hC dL_law_1355 ?_
                                  refine z_iadd hC dL_law_1356 ?_
                                  refine z_sld hC hG hX (inR_w _) hV dL_law_1357 ?_
                                  intro x154 hx154 hV
                                  refine z_aload_n hC zvr_a rfl (hL.at 1 rfl) dL_law_1358 ?_
                                  refine z_iload hC (hL.at 5 rfl) dL_law_1359 ?_
                                  refine z_iconst hC dL_law_1361 ?_
                                  refine z_iadd hC dL_law_1362 ?_
                                  refine z_sld hC hG hX (inR_w _) hV dL_law_1363 ?_
                                  intro x155 hx155 hV
                                  refine z_aload_n hC zvr_a rfl (hL.at 1 rfl) dL_law_1364 ?_
                                  refine z_iload hC (hL.at 5 rfl) dL_law_1365 ?_
                                  refine z_iconst hC dL_law_1367 ?_
                                  refine z_iadd hC dL_law_1368 ?_
                                  refine z_sld hC hG hX (inR_w _) hV dL_law_1369 ?_
                                  intro x156 hx156 hV
                                  refine z_aload_n hC zvr_a rfl (hL.at 1 rfl) dL_law_1370 ?_
                                  refine z_iload hC (hL.at 5 rfl) dL_law_1371 ?_
                                  refine z_iconst hC dL_law_1373 ?_
                                  refine z_iadd hC dL_law_1374 ?_
                                  refine z_sld hC hG hX (inR_w _) hV dL_law_1375 ?_
                                  intro x157 hx157 hV
                                  refine z_call_i hG (zrunV (ci := 6) hC hG (Nat.le_of_ble_eq_true rfl) (Nat.le_of_ble_eq_true rfl) (zobj hG rfl (Nat.le_of_ble_eq_true rfl) (Nat.le_of_ble_eq_true rfl)) (mX6_guard l P G29 x154 hx154 x155 hx155 x156 hx156 x157 hx157 hV) kVX0_155 rfl rfl rfl ⟨(Nat.le_of_ble_eq_true rfl), (Nat.le_of_ble_eq_true rfl)⟩ ⟨hB.1, hB.2⟩ rfl ⟨zcs_0, (Nat.le_of_ble_eq_true rfl)⟩ hL.1.1 dL_law_1376) ?_
                                  rintro x158 G30 _ _ hx158 hV hG
                                  refine z_istore (lv' := [(6, .int (zI x158)), (5, .int (zI x153)), (0, .ref b), (1, .ref (zA P 0 0 0)), (2, .ref (zA P 5 0 0)), (3, .ref (zA P 6 1 0)), (4, .int (zI a23_4))]) hC hL (by decide) rfl dL_law_1379 (fun ls hL => ?_)
                                  refine z_aload_n hC zvr_a rfl (hL.at 4 rfl) dL_law_1381 ?_
                                  refine z_call_i hG (zrunV (ci := 6) hC hG (Nat.le_of_ble_eq_true rfl) (Nat.le_of_ble_eq_true rfl) (zobj hG rfl (Nat.le_of_ble_eq_true rfl) (Nat.le_of_ble_eq_true rfl)) (mX6_thrown l P G30 hV) kVX0_107 rfl rfl rfl ⟨(Nat.le_of_ble_eq_true rfl), (Nat.le_of_ble_eq_true rfl)⟩ ⟨hB.1, hB.2⟩ rfl ⟨zcs_0, (Nat.le_of_ble_eq_true rfl)⟩ hL.1.1 dL_law_1382) ?_
                                  rintro x159 _ _ _ hx159 ⟨rfl, hV⟩ hG
                                  refine z_iload hC (hL.at 1 rfl) dL_law_1385 ?_
                                  refine z_icmp_eq (tgt := 1392) hC hx159 hx153 hV dL_law_1387 (by decide) ?_ ?_
                                  · intro hV
                                    refine z_iload hC (hL.at 1 rfl) dL_law_1392 ?_
                                    obtain ⟨J1409, eJ1409, hV⟩ := zjn_abs hV
                                    have hJ1409 : ∀ {H : Heap} {locs : List Loc}, zS P s G30 H locs → J1409 () → ∀ (ls : Array Slot), zL ls 7 [(0, .ref b), (1, .ref (zA P 0 0 0)), (2, .ref (zA P 5 0 0)), (3, .ref (zA P 6 1 0)), (4, .int (zI a23_4))] → W p l e ({ frames := 8192, cells := mc, slots := ms, locals := 104096 } : Room) s m args below meth c H locs (kc + 4) (ks + 22) Z (F0 m 1409 ls []) := by
                                      intro H locs hG hV ls hL
                                      rw [eJ1409] at hV
                                      refine z_goto (tgt := 2081) hC dL_law_1409 (by decide) ?_
                                      exact hJ2081 G30 (kc + 4) (ks + 22) hB hV _ _ _ hG hL
                                    refine z_if_ne (tgt := 1409) hC hx153 hV dL_law_1394 (by decide) ?_ ?_
                                    · intro hV
                                      exact hJ1409 hG hV _ (hL.sub [2, 3, 4, 5, 6] rfl)
                                    · intro hV
                                      refine z_aload_n hC zvr_a rfl (hL.at 5 rfl) dL_law_1397 ?_
                                      refine z_iconst hC dL_law_1398 ?_
                                      refine z_outL hC hG hV dL_law_1399 ?_
                                      intro x160 hx160 hV
                                      refine z_iload hC (hL.at 0 rfl) dL_law_1400 ?_
                                      refine z_i2l hC hx158 dL_law_1402 ?_
                                      refine z_lcmp hC hx160 hx158 dL_law_1403 ?_
                                      refine z_if_eq (tgt := 1409) hC (zcmp_in _ _) hV dL_law_1404 (by decide) ?_ ?_
                                      · intro hV
                                        exact hJ1409 hG hV _ (hL.sub [2, 3, 4, 5, 6] rfl)
                                      · intro hV
                                        refine z_iconst hC dL_law_1407 ?_
                                        exact hV.elim
                                  · intro hV
                                    refine z_iconst hC dL_law_1390 ?_
                                    exact hV.elim
                                ·
                                  refine z_case (x := bAnd x1 31) (v := 15) hV (fun hc15 hV => ?_) (fun hd15 hV => ?_)
                                  · refine z_tsw (tgt := 1412) hC (inR_toInt _) dL_law_40 (by rw [hc15]; decide) (fun i hi => by simp only [List.size_toArray, List.length_cons, List.length_nil]; omega) ?_
                                    refine z_aload_n hC zvr_a rfl (hL.at 1 rfl) dL_law_1412 ?_
                                    refine z_aload_n hC zvr_a rfl (hL.at 0 rfl) dL_law_1413 ?_
                                    refine z_iload hC (hL.at 4 rfl) dL_law_1414 ?_
                                    refine z_iconst hC dL_law_1416 ?_
                                    refine z_iadd hC dL_law_1417 ?_
                                    refine z_sld hC hG hX (inR_w _) hV dL_law_1418 ?_
                                    intro x161 hx161 hV
                                    refine z_aload_n hC zvr_a rfl (hL.at 0 rfl) dL_law_1419 ?_
                                    refine z_iload hC (hL.at 4 rfl) dL_law_1420 ?_
                                    refine z_iconst hC dL_law_1422 ?_
                                    refine z_iadd hC dL_law_1423 ?_
                                    refine z_sld hC hG hX (inR_w _) hV dL_law_1424 ?_
                                    intro x162 hx162 hV
                                    refine z_aload_n hC zvr_a rfl (hL.at 3 rfl) dL_law_1425 ?_
                                    obtain ⟨hB, hV⟩ := hV
                                    refine z_call_i hG (z_runSW hC hG (mX0_split l P K23 x161 hx161 x162 hx162 hst hV) kWX0_156 rfl rfl rfl ⟨(Nat.le_of_ble_eq_true rfl), (Nat.le_of_ble_eq_true rfl)⟩ ⟨hB.1, hB.2⟩ rfl ⟨zcs_0, (Nat.le_of_ble_eq_true rfl)⟩ hL.1.1 dL_law_1426) ?_
                                    rintro x163 G31 _ _ hx163 hV hG
                                    refine z_istore (lv' := [(5, .int (zI x163)), (0, .ref b), (1, .ref (zA P 0 0 0)), (2, .ref (zA P 5 0 0)), (3, .ref (zA P 6 1 0)), (4, .int (zI a23_4))]) hC hL (by decide) rfl dL_law_1429 (fun ls hL => ?_)
                                    refine z_aload_n hC zvr_a rfl (hL.at 3 rfl) dL_law_1431 ?_
                                    refine z_aload_n hC zvr_a rfl (hL.at 1 rfl) dL_law_1432 ?_
                                    refine z_iload hC (hL.at 5 rfl) dL_law_1433 ?_
                                    refine z_iconst hC dL_law_1435 ?_
                                    refine z_iadd hC dL_law_1436 ?_
                                    refine z_sld hC hG hX (inR_w _) hV dL_law_1437 ?_
                                    intro x164 hx164 hV
                                    refine z_aload_n hC zvr_a rfl (hL.at 1 rfl) dL_law_1438 ?_
                                    refine z_iload hC (hL.at 5 rfl) dL_law_1439 ?_
                                    refine z_iconst hC dL_law_1441 ?_
                                    refine z_iadd hC dL_law_1442 ?_
                                    refine z_sld hC hG hX (inR_w _) hV dL_law_1443 ?_
                                    intro x165 hx165 hV
                                    refine z_call_i hG (zrunV (ci := 6) hC hG (Nat.le_of_ble_eq_true rfl) (Nat.le_of_ble_eq_true rfl) (zobj hG rfl (Nat.le_of_ble_eq_true rfl) (Nat.le_of_ble_eq_true rfl)) (mX6_split l P G31 x164 hx164 x165 hx165 hV) kVX0_158 rfl rfl rfl ⟨(Nat.le_of_ble_eq_true rfl), (Nat.le_of_ble_eq_true rfl)⟩ ⟨hB.1, hB.2⟩ rfl ⟨zcs_0, (Nat.le_of_ble_eq_true rfl)⟩ hL.1.1 dL_law_1444) ?_
                                    rintro x166 G32 _ _ hx166 hV hG
                                    refine z_istore (lv' := [(6, .int (zI x166)), (5, .int (zI x163)), (0, .ref b), (1, .ref (zA P 0 0 0)), (2, .ref (zA P 5 0 0)), (3, .ref (zA P 6 1 0)), (4, .int (zI a23_4))]) hC hL (by decide) rfl dL_law_1447 (fun ls hL => ?_)
                                    refine z_aload_n hC zvr_a rfl (hL.at 4 rfl) dL_law_1449 ?_
                                    refine z_call_i hG (zrunV (ci := 6) hC hG (Nat.le_of_ble_eq_true rfl) (Nat.le_of_ble_eq_true rfl) (zobj hG rfl (Nat.le_of_ble_eq_true rfl) (Nat.le_of_ble_eq_true rfl)) (mX6_thrown l P G32 hV) kVX0_107 rfl rfl rfl ⟨(Nat.le_of_ble_eq_true rfl), (Nat.le_of_ble_eq_true rfl)⟩ ⟨hB.1, hB.2⟩ rfl ⟨zcs_0, (Nat.le_of_ble_eq_true rfl)⟩ hL.1.1 dL_law_1450) ?_
                                    rintro x167 _ _ _ hx167 ⟨rfl, hV⟩ hG
                                    refine z_iload hC (hL.at 1 rfl) dL_law_1453 ?_
                                    refine z_icmp_eq (tgt := 1460) hC hx167 hx163 hV dL_law_1455 (by decide) ?_ ?_
                                    · intro hV
                                      refine z_iload hC (hL.at 1 rfl) dL_law_1460 ?_
                                      obtain ⟨J1477, eJ1477, hV⟩ := zjn_abs hV
                                      have hJ1477 : ∀ {H : Heap} {locs : List Loc}, zS P s G32 H locs → J1477 () → ∀ (ls : Array Slot), zL ls 7 [(0, .ref b), (1, .ref (zA P 0 0 0)), (2, .ref (zA P 5 0 0)), (3, .ref (zA P 6 1 0)), (4, .int (zI a23_4))] → W p l e ({ frames := 8192, cells := mc, slots := ms, locals := 104096 } : Room) s m args below meth c H locs (kc + 8) (ks + 136) Z (F0 m 1477 ls []) := by
                                        intro H locs hG hV ls hL
                                        rw [eJ1477] at hV
                                        refine z_goto (tgt := 2081) hC dL_law_1477 (by decide) ?_
                                        exact hJ2081 G32 (kc + 8) (ks + 136) hB hV _ _ _ hG hL
                                      refine z_if_ne (tgt := 1477) hC hx163 hV dL_law_1462 (by decide) ?_ ?_
                                      · intro hV
                                        exact hJ1477 hG hV _ (hL.sub [2, 3, 4, 5, 6] rfl)
                                      · intro hV
                                        refine z_aload_n hC zvr_a rfl (hL.at 5 rfl) dL_law_1465 ?_
                                        refine z_iconst hC dL_law_1466 ?_
                                        refine z_outL hC hG hV dL_law_1467 ?_
                                        intro x168 hx168 hV
                                        refine z_iload hC (hL.at 0 rfl) dL_law_1468 ?_
                                        refine z_i2l hC hx166 dL_law_1470 ?_
                                        refine z_lcmp hC hx168 hx166 dL_law_1471 ?_
                                        refine z_if_eq (tgt := 1477) hC (zcmp_in _ _) hV dL_law_1472 (by decide) ?_ ?_
                                        · intro hV
                                          exact hJ1477 hG hV _ (hL.sub [2, 3, 4, 5, 6] rfl)
                                        · intro hV
                                          refine z_iconst hC dL_law_1475 ?_
                                          exact hV.elim
                                    · intro hV
                                      refine z_iconst hC dL_law_1458 ?_
                                      exact hV.elim
                                  ·
                                    refine z_case (x := bAnd x1 31) (v := 16) hV (fun hc16 hV => ?_) (fun hd16 hV => ?_)
                                    · refine z_tsw (tgt := 1480) hC (inR_toInt _) dL_law_40 (by rw [hc16]; decide) (fun i hi => by simp only [List.size_toArray, List.length_cons, List.length_nil]; omega) ?_
                                      refine z_aload_n hC zvr_a rfl (hL.at 1 rfl) dL_law_1480 ?_
                                      refine z_aload_n hC zvr_a rfl (hL.at 0 rfl) dL_law_1481 ?_
                                      refine z_iload hC (hL.at 4 rfl) dL_law_1482 ?_
                                      refine z_iconst hC dL_law_1484 ?_
                                      refine z_iadd hC dL_law_1485 ?_
                                      refine z_sld hC hG hX (inR_w _) hV dL_law_1486 ?_
                                      intro x169 hx169 hV
                                      refine z_aload_n hC zvr_a rfl (hL.at 0 rfl) dL_law_1487 ?_
                                      refine z_iload hC (hL.at 4 rfl) dL_law_1488 ?_
                                      refine z_iconst hC dL_law_1490 ?_
                                      refine z_iadd hC dL_law_1491 ?_
                                      refine z_sld hC hG hX (inR_w _) hV dL_law_1492 ?_
                                      intro x170 hx170 hV
                                      refine z_aload_n hC zvr_a rfl (hL.at 3 rfl) dL_law_1493 ?_
                                      obtain ⟨hB, hV⟩ := hV
                                      refine z_call_i hG (z_runSW hC hG (mX0_merge l P K23 x169 hx169 x170 hx170 hst hV) kWX0_159 rfl rfl rfl ⟨(Nat.le_of_ble_eq_true rfl), (Nat.le_of_ble_eq_true rfl)⟩ ⟨hB.1, hB.2⟩ rfl ⟨zcs_0, (Nat.le_of_ble_eq_true rfl)⟩ hL.1.1 dL_law_1494) ?_
                                      rintro x171 G33 _ _ hx171 hV hG
                                      refine z_istore (lv' := [(5, .int (zI x171)), (0, .ref b), (1, .ref (zA P 0 0 0)), (2, .ref (zA P 5 0 0)), (3, .ref (zA P 6 1 0)), (4, .int (zI a23_4))]) hC hL (by decide) rfl dL_law_1497 (fun ls hL => ?_)
                                      refine z_aload_n hC zvr_a rfl (hL.at 3 rfl) dL_law_1499 ?_
                                      refine z_aload_n hC zvr_a rfl (hL.at 1 rfl) dL_law_1500 ?_
                                      refine z_iload hC (hL.at 5 rfl) dL_law_1501 ?_
                                      refine z_iconst hC dL_law_1503 ?_
                                      refine z_iadd hC dL_law_1504 ?_
                                      refine z_sld hC hG hX (inR_w _) hV dL_law_1505 ?_
                                      intro x172 hx172 hV
                                      refine z_aload_n hC zvr_a rfl (hL.at 1 rfl) dL_law_1506 ?_
                                      refine z_iload hC (hL.at 5 rfl) dL_law_1507 ?_
                                      refine z_iconst hC dL_law_1509 ?_
                                      refine z_iadd hC dL_law_1510 ?_
                                      refine z_sld hC hG hX (inR_w _) hV dL_law_1511 ?_
                                      intro x173 hx173 hV
                                      refine z_call_i hG (zrunV (ci := 6) hC hG (Nat.le_of_ble_eq_true rfl) (Nat.le_of_ble_eq_true rfl) (zobj hG rfl (Nat.le_of_ble_eq_true rfl) (Nat.le_of_ble_eq_true rfl)) (mX6_merge l P G33 x172 hx172 x173 hx173 hV) kVX0_161 rfl rfl rfl ⟨(Nat.le_of_ble_eq_true rfl), (Nat.le_of_ble_eq_true rfl)⟩ ⟨hB.1, hB.2⟩ rfl ⟨zcs_0, (Nat.le_of_ble_eq_true rfl)⟩ hL.1.1 dL_law_1512) ?_
                                      rintro x174 G34 _ _ hx174 hV hG
                                      refine z_istore (lv' := [(6, .int (zI x174)), (5, .int (zI x171)), (0, .ref b), (1, .ref (zA P 0 0 0)), (2, .ref (zA P 5 0 0)), (3, .ref (zA P 6 1 0)), (4, .int (zI a23_4))]) hC hL (by decide) rfl dL_law_1515 (fun ls hL => ?_)
                                      refine z_aload_n hC zvr_a rfl (hL.at 4 rfl) dL_law_1517 ?_
                                      refine z_call_i hG (zrunV (ci := 6) hC hG (Nat.le_of_ble_eq_true rfl) (Nat.le_of_ble_eq_true rfl) (zobj hG rfl (Nat.le_of_ble_eq_true rfl) (Nat.le_of_ble_eq_true rfl)) (mX6_thrown l P G34 hV) kVX0_107 rfl rfl rfl ⟨(Nat.le_of_ble_eq_true rfl), (Nat.le_of_ble_eq_true rfl)⟩ ⟨hB.1, hB.2⟩ rfl ⟨zcs_0, (Nat.le_of_ble_eq_true rfl)⟩ hL.1.1 dL_law_1518) ?_
                                      rintro x175 _ _ _ hx175 ⟨rfl, hV⟩ hG
                                      refine z_iload hC (hL.at 1 rfl) dL_law_1521 ?_
                                      refine z_icmp_eq (tgt := 1528) hC hx175 hx171 hV dL_law_1523 (by decide) ?_ ?_
                                      · intro hV
                                        refine z_iload hC (hL.at 1 rfl) dL_law_1528 ?_
                                        obtain ⟨J1545, eJ1545, hV⟩ := zjn_abs hV
                                        have hJ1545 : ∀ {H : Heap} {locs : List Loc}, zS P s G34 H locs → J1545 () → ∀ (ls : Array Slot), zL ls 7 [(0, .ref b), (1, .ref (zA P 0 0 0)), (2, .ref (zA P 5 0 0)), (3, .ref (zA P 6 1 0)), (4, .int (zI a23_4))] → W p l e ({ frames := 8192, cells := mc, slots := ms, locals := 104096 } : Room) s m args below meth c H locs (kc + 10) (ks + 148) Z (F0 m 1545 ls []) := by
                                          intro H locs hG hV ls hL
                                          rw [eJ1545] at hV
                                          refine z_goto (tgt := 2081) hC dL_law_1545 (by decide) ?_
                                          exact hJ2081 G34 (kc + 10) (ks + 148) hB hV _ _ _ hG hL
                                        refine z_if_ne (tgt := 1545) hC hx171 hV dL_law_1530 (by decide) ?_ ?_
                                        · intro hV
                                          exact hJ1545 hG hV _ (hL.sub [2, 3, 4, 5, 6] rfl)
                                        · intro hV
                                          refine z_aload_n hC zvr_a rfl (hL.at 5 rfl) dL_law_1533 ?_
                                          refine z_iconst hC dL_law_1534 ?_
                                          refine z_outL hC hG hV dL_law_1535 ?_
                                          intro x176 hx176 hV
                                          refine z_iload hC (hL.at 0 rfl) dL_law_1536 ?_
                                          refine z_i2l hC hx174 dL_law_1538 ?_
                                          refine z_lcmp hC hx176 hx174 dL_law_1539 ?_
                                          refine z_if_eq (tgt := 1545) hC (zcmp_in _ _) hV dL_law_1540 (by decide) ?_ ?_
                                          · intro hV
                                            exact hJ1545 hG hV _ (hL.sub [2, 3, 4, 5, 6] rfl)
                                          · intro hV
                                            refine z_iconst hC dL_law_1543 ?_
                                            exact hV.elim
                                      · intro hV
                                        refine z_iconst hC dL_law_1526 ?_
                                        exact hV.elim
                                    ·
                                      refine z_case (x := bAnd x1 31) (v := 17) hV (fun hc17 hV => ?_) (fun hd17 hV => ?_)
                                      · refine z_tsw (tgt := 1548) hC (inR_toInt _) dL_law_40 (by rw [hc17]; decide) (fun i hi => by simp only [List.size_toArray, List.length_cons, List.length_nil]; omega) ?_
                                        refine z_aload_n hC zvr_a rfl (hL.at 1 rfl) dL_law_1548 ?_
                                        refine z_aload_n hC zvr_a rfl (hL.at 0 rfl) dL_law_1549 ?_
                                        refine z_iload hC (hL.at 4 rfl) dL_law_1550 ?_
                                        refine z_iconst hC dL_law_1552 ?_
                                        refine z_iadd hC dL_law_1553 ?_
                                        refine z_sld hC hG hX (inR_w _) hV dL_law_1554 ?_
                                        intro x177 hx177 hV
                                        refine z_aload_n hC zvr_a rfl (hL.at 0 rfl) dL_law_1555 ?_
                                        refine z_iload hC (hL.at 4 rfl) dL_law_1556 ?_
                                        refine z_iconst hC dL_law_1558 ?_
                                        refine z_iadd hC dL_law_1559 ?_
                                        refine z_sld hC hG hX (inR_w _) hV dL_law_1560 ?_
                                        intro x178 hx178 hV
                                        refine z_aload_n hC zvr_a rfl (hL.at 0 rfl) dL_law_1561 ?_
                                        refine z_iload hC (hL.at 4 rfl) dL_law_1562 ?_
                                        refine z_iconst hC dL_law_1564 ?_
                                        refine z_iadd hC dL_law_1565 ?_
                                        refine z_sld hC hG hX (inR_w _) hV dL_law_1566 ?_
                                        intro x179 hx179 hV
                                        refine z_aload_n hC zvr_a rfl (hL.at 0 rfl) dL_law_1567 ?_
                                        refine z_iload hC (hL.at 4 rfl) dL_law_1568 ?_
                                        refine z_iconst hC dL_law_1570 ?_
                                        refine z_iadd hC dL_law_1571 ?_
                                        refine z_sld hC hG hX (inR_w _) hV dL_law_1572 ?_
                                        intro x180 hx180 hV
                                        refine z_aload_n hC zvr_a rfl (hL.at 3 rfl) dL_law_1573 ?_
                                        obtain ⟨hB, hV⟩ := hV
                                        refine z_call_i hG (z_runSW hC hG (mX0_run l P K23 x177 hx177 x178 hx178 x179 hx179 x180 hx180 hst hV) kWX0_162 rfl rfl rfl ⟨(Nat.le_of_ble_eq_true rfl), (Nat.le_of_ble_eq_true rfl)⟩ ⟨hB.1, hB.2⟩ rfl ⟨zcs_0, (Nat.le_of_ble_eq_true rfl)⟩ hL.1.1 dL_law_1574) ?_
                                        rintro x181 G35 _ _ hx181 hV hG
                                        refine z_istore (lv' := [(5, .int (zI x181)), (0, .ref b), (1, .ref (zA P 0 0 0)), (2, .ref (zA P 5 0 0)), (3, .ref (zA P 6 1 0)), (4, .int (zI a23_4))]) hC hL (by decide) rfl dL_law_1577 (fun ls hL => ?_)
                                        refine z_aload_n hC zvr_a rfl (hL.at 3 rfl) dL_law_1579 ?_
                                        refine z_aload_n hC zvr_a rfl (hL.at 1 rfl) dL_law_1580 ?_
                                        refine z_iload hC (hL.at 5 rfl) dL_law_1581 ?_
                                        refine z_iconst hC dL_law_1583 ?_
                                        refine z_iadd hC dL_law_1584 ?_
                                        refine z_sld hC hG hX (inR_w _) hV dL_law_1585 ?_
                                        intro x182 hx182 hV
                                        refine z_aload_n hC zvr_a rfl (hL.at 1 rfl) dL_law_1586 ?_
                                        refine z_iload hC (hL.at 5 rfl) dL_law_1587 ?_
                                        refine z_iconst hC dL_law_1589 ?_
                                        refine z_iadd hC dL_law_1590 ?_
                                        refine z_sld hC hG hX (inR_w _) hV dL_law_1591 ?_
                                        intro x183 hx183 hV
                                        refine z_aload_n hC zvr_a rfl (hL.at 1 rfl) dL_law_1592 ?_
                                        refine z_iload hC (hL.at 5 rfl) dL_law_1593 ?_
                                        refine z_iconst hC dL_law_1595 ?_
                                        refine z_iadd hC dL_law_1596 ?_
                                        refine z_sld hC hG hX (inR_w _) hV dL_law_1597 ?_
                                        intro x184 hx184 hV
                                        refine z_aload_n hC zvr_a rfl (hL.at 1 rfl) dL_law_1598 ?_
                                        refine z_iload hC (hL.at 5 rfl) dL_law_1599 ?_
                                        refine z_iconst hC dL_law_1601 ?_
                                        refine z_iadd hC dL_law_1602 ?_
                                        refine z_sld hC hG hX (inR_w _) hV dL_law_1603 ?_
                                        intro x185 hx185 hV
                                        refine z_call_i hG (zrunV (ci := 6) hC hG (Nat.le_of_ble_eq_true rfl) (Nat.le_of_ble_eq_true rfl) (zobj hG rfl (Nat.le_of_ble_eq_true rfl) (Nat.le_of_ble_eq_true rfl)) (mX6_run l P G35 x182 hx182 x183 hx183 x184 hx184 x185 hx185 hV) kVX0_164 rfl rfl rfl ⟨(Nat.le_of_ble_eq_true rfl), (Nat.le_of_ble_eq_true rfl)⟩ ⟨hB.1, hB.2⟩ rfl ⟨zcs_0, (Nat.le_of_ble_eq_true rfl)⟩ hL.1.1 dL_law_1604) ?_
                                        rintro x186 G36 _ _ hx186 hV hG
                                        refine z_istore (lv' := [(6, .int (zI x186)), (5, .int (zI x181)), (0, .ref b), (1, .ref (zA P 0 0 0)), (2, .ref (zA P 5 0 0)), (3, .ref (zA P 6 1 0)), (4, .int (zI a23_4))]) hC hL (by decide) rfl dL_law_1607 (fun ls hL => ?_)
                                        refine z_aload_n hC zvr_a rfl (hL.at 4 rfl) dL_law_1609 ?_
                                        refine z_call_i hG (zrunV (ci := 6) hC hG (Nat.le_of_ble_eq_true rfl) (Nat.le_of_ble_eq_true rfl) (zobj hG rfl (Nat.le_of_ble_eq_true rfl) (Nat.le_of_ble_eq_true rfl)) (mX6_thrown l P G36 hV) kVX0_107 rfl rfl rfl ⟨(Nat.le_of_ble_eq_true rfl), (Nat.le_of_ble_eq_true rfl)⟩ ⟨hB.1, hB.2⟩ rfl ⟨zcs_0, (Nat.le_of_ble_eq_true rfl)⟩ hL.1.1 dL_law_1610) ?_
                                        rintro x187 _ _ _ hx187 ⟨rfl, hV⟩ hG
                                        refine z_iload hC (hL.at 1 rfl) dL_law_1613 ?_
                                        refine z_icmp_eq (tgt := 1620) hC hx187 hx181 hV dL_law_1615 (by decide) ?_ ?_
                                        · intro hV
                                          refine z_iload hC (hL.at 1 rfl) dL_law_1620 ?_
                                          obtain ⟨J1637, eJ1637, hV⟩ := zjn_abs hV
                                          have hJ1637 : ∀ {H : Heap} {locs : List Loc}, zS P s G36 H locs → J1637 () → ∀ (ls : Array Slot), zL ls 7 [(0, .ref b), (1, .ref (zA P 0 0 0)), (2, .ref (zA P 5 0 0)), (3, .ref (zA P 6 1 0)), (4, .int (zI a23_4))] → W p l e ({ frames := 8192, cells := mc, slots := ms, locals := 104096 } : Room) s m args below meth c H locs (kc + 1010) (ks + 70051) Z (F0 m 1637 ls []) := by
                                            intro H locs hG hV ls hL
                                            rw [eJ1637] at hV
                                            refine z_goto (tgt := 2081) hC dL_law_1637 (by decide) ?_
                                            exact hJ2081 G36 (kc + 1010) (ks + 70051) hB hV _ _ _ hG hL
                                          refine z_if_ne (tgt := 1637) hC hx181 hV dL_law_1622 (by decide) ?_ ?_
                                          · intro hV
                                            exact hJ1637 hG hV _ (hL.sub [2, 3, 4, 5, 6] rfl)
                                          · intro hV
                                            refine z_aload_n hC zvr_a rfl (hL.at 5 rfl) dL_law_1625 ?_
                                            refine z_iconst hC dL_law_1626 ?_
                                            refine z_outL hC hG hV dL_law_1627 ?_
                                            intro x188 hx188 hV
                                            refine z_iload hC (hL.at 0 rfl) dL_law_1628 ?_
                                            refine z_i2l hC hx186 dL_law_1630 ?_
                                            refine z_lcmp hC hx188 hx186 dL_law_1631 ?_
                                            refine z_if_eq (tgt := 1637) hC (zcmp_in _ _) hV dL_law_1632 (by decide) ?_ ?_
                                            · intro hV
                                              exact hJ1637 hG hV _ (hL.sub [2, 3, 4, 5, 6] rfl)
                                            · intro hV
                                              refine z_iconst hC dL_law_1635 ?_
                                              exact hV.elim
                                        · intro hV
                                          refine z_iconst hC dL_law_1618 ?_
                                          exact hV.elim
                                      ·
                                        refine z_case (x := bAnd x1 31) (v := 18) hV (fun hc18 hV => ?_) (fun hd18 hV => ?_)
                                        · refine z_tsw (tgt := 1640) hC (inR_toInt _) dL_law_40 (by rw [hc18]; decide) (fun i hi => by simp only [List.size_toArray, List.length_cons, List.length_nil]; omega) ?_
                                          refine z_aload_n hC zvr_a rfl (hL.at 1 rfl) dL_law_1640 ?_
                                          refine z_call_i hG (zrunV (ci := 1) hC hG (Nat.le_of_ble_eq_true rfl) (Nat.le_of_ble_eq_true rfl) (zobj hG rfl (Nat.le_of_ble_eq_true rfl) (Nat.le_of_ble_eq_true rfl)) (mX1_tests l P K23 hV) kVX0_165 rfl rfl rfl ⟨(Nat.le_of_ble_eq_true rfl), (Nat.le_of_ble_eq_true rfl)⟩ ⟨hB.1, hB.2⟩ rfl ⟨zcs_0, (Nat.le_of_ble_eq_true rfl)⟩ hL.1.1 dL_law_1641) ?_
                                          rintro x189 _ _ _ hx189 ⟨rfl, hV⟩ hG
                                          refine z_aload_n hC zvr_a rfl (hL.at 2 rfl) dL_law_1644 ?_
                                          refine z_call_i hG (zrunV (ci := 6) hC hG (Nat.le_of_ble_eq_true rfl) (Nat.le_of_ble_eq_true rfl) (zobj hG rfl (Nat.le_of_ble_eq_true rfl) (Nat.le_of_ble_eq_true rfl)) (mX6_tests l P K23 hV) kVX0_168 rfl rfl rfl ⟨(Nat.le_of_ble_eq_true rfl), (Nat.le_of_ble_eq_true rfl)⟩ ⟨hB.1, hB.2⟩ rfl ⟨(zcs_c rfl zcs_0), (Nat.le_of_ble_eq_true rfl)⟩ hL.1.1 dL_law_1645) ?_
                                          rintro x190 G37 _ _ hx190 hV hG
                                          refine z_icmp_eq (tgt := 2081) hC hx189 hx190 hV dL_law_1648 (by decide) ?_ ?_
                                          · intro hV
                                            exact hJ2081 G37 kc ks hB hV _ _ _ hG hL
                                          · intro hV
                                            refine z_iconst hC dL_law_1651 ?_
                                            exact hV.elim
                                        ·
                                          refine z_case (x := bAnd x1 31) (v := 19) hV (fun hc19 hV => ?_) (fun hd19 hV => ?_)
                                          · refine z_tsw (tgt := 1653) hC (inR_toInt _) dL_law_40 (by rw [hc19]; decide) (fun i hi => by simp only [List.size_toArray, List.length_cons, List.length_nil]; omega) ?_
                                            refine z_aload_n hC zvr_a rfl (hL.at 1 rfl) dL_law_1653 ?_
                                            refine z_call_i hG (zrunV (ci := 1) hC hG (Nat.le_of_ble_eq_true rfl) (Nat.le_of_ble_eq_true rfl) (zobj hG rfl (Nat.le_of_ble_eq_true rfl) (Nat.le_of_ble_eq_true rfl)) (mX1_views l P K23 hV) kVX0_169 rfl rfl rfl ⟨(Nat.le_of_ble_eq_true rfl), (Nat.le_of_ble_eq_true rfl)⟩ ⟨hB.1, hB.2⟩ rfl ⟨zcs_0, (Nat.le_of_ble_eq_true rfl)⟩ hL.1.1 dL_law_1654) ?_
                                            rintro x191 _ _ _ hx191 ⟨rfl, hV⟩ hG
                                            refine z_aload_n hC zvr_a rfl (hL.at 2 rfl) dL_law_1657 ?_
                                            refine z_call_i hG (zrunV (ci := 6) hC hG (Nat.le_of_ble_eq_true rfl) (Nat.le_of_ble_eq_true rfl) (zobj hG rfl (Nat.le_of_ble_eq_true rfl) (Nat.le_of_ble_eq_true rfl)) (mX6_views l P K23 hV) kVX0_172 rfl rfl rfl ⟨(Nat.le_of_ble_eq_true rfl), (Nat.le_of_ble_eq_true rfl)⟩ ⟨hB.1, hB.2⟩ rfl ⟨(zcs_c rfl zcs_0), (Nat.le_of_ble_eq_true rfl)⟩ hL.1.1 dL_law_1658) ?_
                                            rintro x192 G38 _ _ hx192 hV hG
                                            refine z_icmp_eq (tgt := 2081) hC hx191 hx192 hV dL_law_1661 (by decide) ?_ ?_
                                            · intro hV
                                              exact hJ2081 G38 kc ks hB hV _ _ _ hG hL
                                            · intro hV
                                              refine z_iconst hC dL_law_1664 ?_
                                              exact hV.elim
                                          ·
                                            refine z_case (x := bAnd x1 31) (v := 20) hV (fun hc20 hV => ?_) (fun hd20 hV => ?_)
                                            · refine z_tsw (tgt := 1666) hC (inR_toInt _) dL_law_40 (by rw [hc20]; decide) (fun i hi => by simp only [List.size_toArray, List.length_cons, List.length_nil]; omega) ?_
                                              refine z_aload_n hC zvr_a rfl (hL.at 1 rfl) dL_law_1666 ?_
                                              refine z_aload_n hC zvr_a rfl (hL.at 0 rfl) dL_law_1667 ?_
                                              refine z_iload hC (hL.at 4 rfl) dL_law_1668 ?_
                                              refine z_iconst hC dL_law_1670 ?_
                                              refine z_iadd hC dL_law_1671 ?_
                                              refine z_sld hC hG hX (inR_w _) hV dL_law_1672 ?_
                                              intro x193 hx193 hV
                                              refine z_aload_n hC zvr_a rfl (hL.at 3 rfl) dL_law_1673 ?_
                                              obtain ⟨hB, hV⟩ := hV
                                              refine z_call_i hG (z_runSW hC hG (mX0_viewAt l P K23 x193 hx193 hst hV) kWX0_173 rfl rfl rfl ⟨(Nat.le_of_ble_eq_true rfl), (Nat.le_of_ble_eq_true rfl)⟩ ⟨hB.1, hB.2⟩ rfl ⟨zcs_0, (Nat.le_of_ble_eq_true rfl)⟩ hL.1.1 dL_law_1674) ?_
                                              rintro x194 G39 _ _ hx194 hV hG
                                              refine z_istore (lv' := [(5, .int (zI x194)), (0, .ref b), (1, .ref (zA P 0 0 0)), (2, .ref (zA P 5 0 0)), (3, .ref (zA P 6 1 0)), (4, .int (zI a23_4))]) hC hL (by decide) rfl dL_law_1677 (fun ls hL => ?_)
                                              refine z_aload_n hC zvr_a rfl (hL.at 3 rfl) dL_law_1679 ?_
                                              refine z_aload_n hC zvr_a rfl (hL.at 1 rfl) dL_law_1680 ?_
                                              refine z_iload hC (hL.at 5 rfl) dL_law_1681 ?_
                                              refine z_iconst hC dL_law_1683 ?_
                                              refine z_iadd hC dL_law_1684 ?_
                                              refine z_sld hC hG hX (inR_w _) hV dL_law_1685 ?_
                                              intro x195 hx195 hV
                                              refine z_call_i hG (zrunV (ci := 6) hC hG (Nat.le_of_ble_eq_true rfl) (Nat.le_of_ble_eq_true rfl) (zobj hG rfl (Nat.le_of_ble_eq_true rfl) (Nat.le_of_ble_eq_true rfl)) (mX6_viewAt l P G39 x195 hx195 hV) kVX0_175 rfl rfl rfl ⟨(Nat.le_of_ble_eq_true rfl), (Nat.le_of_ble_eq_true rfl)⟩ ⟨hB.1, hB.2⟩ rfl ⟨zcs_0, (Nat.le_of_ble_eq_true rfl)⟩ hL.1.1 dL_law_1686) ?_
                                              rintro x196 G40 _ _ hx196 hV hG
                                              refine z_istore (lv' := [(6, .int (zI x196)), (5, .int (zI x194)), (0, .ref b), (1, .ref (zA P 0 0 0)), (2, .ref (zA P 5 0 0)), (3, .ref (zA P 6 1 0)), (4, .int (zI a23_4))]) hC hL (by decide) rfl dL_law_1689 (fun ls hL => ?_)
                                              refine z_aload_n hC zvr_a rfl (hL.at 4 rfl) dL_law_1691 ?_
                                              refine z_call_i hG (zrunV (ci := 6) hC hG (Nat.le_of_ble_eq_true rfl) (Nat.le_of_ble_eq_true rfl) (zobj hG rfl (Nat.le_of_ble_eq_true rfl) (Nat.le_of_ble_eq_true rfl)) (mX6_thrown l P G40 hV) kVX0_107 rfl rfl rfl ⟨(Nat.le_of_ble_eq_true rfl), (Nat.le_of_ble_eq_true rfl)⟩ ⟨hB.1, hB.2⟩ rfl ⟨zcs_0, (Nat.le_of_ble_eq_true rfl)⟩ hL.1.1 dL_law_1692) ?_
                                              rintro x197 _ _ _ hx197 ⟨rfl, hV⟩ hG
                                              refine z_iload hC (hL.at 1 rfl) dL_law_1695 ?_
                                              refine z_icmp_eq (tgt := 1702) hC hx197 hx194 hV dL_law_1697 (by decide) ?_ ?_
                                              · intro hV
                                                refine z_iload hC (hL.at 1 rfl) dL_law_1702 ?_
                                                obtain ⟨J1719, eJ1719, hV⟩ := zjn_abs hV
                                                have hJ1719 : ∀ {H : Heap} {locs : List Loc}, zS P s G40 H locs → J1719 () → ∀ (ls : Array Slot), zL ls 7 [(0, .ref b), (1, .ref (zA P 0 0 0)), (2, .ref (zA P 5 0 0)), (3, .ref (zA P 6 1 0)), (4, .int (zI a23_4))] → W p l e ({ frames := 8192, cells := mc, slots := ms, locals := 104096 } : Room) s m args below meth c H locs (kc + 1) (ks + 6) Z (F0 m 1719 ls []) := by
                                                  intro H locs hG hV ls hL
                                                  rw [eJ1719] at hV
                                                  refine z_goto (tgt := 2081) hC dL_law_1719 (by decide) ?_
                                                  exact hJ2081 G40 (kc + 1) (ks + 6) hB hV _ _ _ hG hL
                                                refine z_if_ne (tgt := 1719) hC hx194 hV dL_law_1704 (by decide) ?_ ?_
                                                · intro hV
                                                  exact hJ1719 hG hV _ (hL.sub [2, 3, 4, 5, 6] rfl)
                                                · intro hV
                                                  refine z_aload_n hC zvr_a rfl (hL.at 5 rfl) dL_law_1707 ?_
                                                  refine z_iconst hC dL_law_1708 ?_
                                                  refine z_outL hC hG hV dL_law_1709 ?_
                                                  intro x198 hx198 hV
                                                  refine z_iload hC (hL.at 0 rfl) dL_law_1710 ?_
                                                  refine z_i2l hC hx196 dL_law_1712 ?_
                                                  refine z_lcmp hC hx198 hx196 dL_law_1713 ?_
                                                  refine z_if_eq (tgt := 1719) hC (zcmp_in _ _) hV dL_law_1714 (by decide) ?_ ?_
                                                  · intro hV
                                                    exact hJ1719 hG hV _ (hL.sub [2, 3, 4, 5, 6] rfl)
                                                  · intro hV
                                                    refine z_iconst hC dL_law_1717 ?_
                                                    exact hV.elim
                                              · intro hV
                                                refine z_iconst hC dL_law_1700 ?_
                                                exact hV.elim
                                            ·
                                              refine z_case (x := bAnd x1 31) (v := 21) hV (fun hc21 hV => ?_) (fun hd21 hV => ?_)
                                              · refine z_tsw (tgt := 1722) hC (inR_toInt _) dL_law_40 (by rw [hc21]; decide) (fun i hi => by simp only [List.size_toArray, List.length_cons, List.length_nil]; omega) ?_
                                                refine z_aload_n hC zvr_a rfl (hL.at 1 rfl) dL_law_1722 ?_
                                                refine z_aload_n hC zvr_a rfl (hL.at 0 rfl) dL_law_1723 ?_
                                                refine z_iload hC (hL.at 4 rfl) dL_law_1724 ?_
                                                refine z_iconst hC dL_law_1726 ?_
                                                refine z_iadd hC dL_law_1727 ?_
                                                refine z_sld hC hG hX (inR_w _) hV dL_law_1728 ?_
                                                intro x199 hx199 hV
                                                refine z_aload_n hC zvr_a rfl (hL.at 3 rfl) dL_law_1729 ?_
                                                obtain ⟨hB, hV⟩ := hV
                                                refine z_call_i hG (z_runSW hC hG (mX0_bound l P K23 x199 hx199 hst hV) kWX0_176 rfl rfl rfl ⟨(Nat.le_of_ble_eq_true rfl), (Nat.le_of_ble_eq_true rfl)⟩ ⟨hB.1, hB.2⟩ rfl ⟨zcs_0, (Nat.le_of_ble_eq_true rfl)⟩ hL.1.1 dL_law_1730) ?_
                                                rintro x200 G41 _ _ hx200 hV hG
                                                refine z_istore (lv' := [(5, .int (zI x200)), (0, .ref b), (1, .ref (zA P 0 0 0)), (2, .ref (zA P 5 0 0)), (3, .ref (zA P 6 1 0)), (4, .int (zI a23_4))]) hC hL (by decide) rfl dL_law_1733 (fun ls hL => ?_)
                                                refine z_aload_n hC zvr_a rfl (hL.at 3 rfl) dL_law_1735 ?_
                                                refine z_aload_n hC zvr_a rfl (hL.at 1 rfl) dL_law_1736 ?_
                                                refine z_iload hC (hL.at 5 rfl) dL_law_1737 ?_
                                                refine z_iconst hC dL_law_1739 ?_
                                                refine z_iadd hC dL_law_1740 ?_
                                                refine z_sld hC hG hX (inR_w _) hV dL_law_1741 ?_
                                                intro x201 hx201 hV
                                                refine z_call_i hG (zrunV (ci := 6) hC hG (Nat.le_of_ble_eq_true rfl) (Nat.le_of_ble_eq_true rfl) (zobj hG rfl (Nat.le_of_ble_eq_true rfl) (Nat.le_of_ble_eq_true rfl)) (mX6_bound l P G41 x201 hx201 hV) kVX0_178 rfl rfl rfl ⟨(Nat.le_of_ble_eq_true rfl), (Nat.le_of_ble_eq_true rfl)⟩ ⟨hB.1, hB.2⟩ rfl ⟨zcs_0, (Nat.le_of_ble_eq_true rfl)⟩ hL.1.1 dL_law_1742) ?_
                                                rintro x202 G42 _ _ hx202 hV hG
                                                refine z_istore (lv' := [(6, .int (zI x202)), (5, .int (zI x200)), (0, .ref b), (1, .ref (zA P 0 0 0)), (2, .ref (zA P 5 0 0)), (3, .ref (zA P 6 1 0)), (4, .int (zI a23_4))]) hC hL (by decide) rfl dL_law_1745 (fun ls hL => ?_)
                                                refine z_aload_n hC zvr_a rfl (hL.at 4 rfl) dL_law_1747 ?_
                                                refine z_call_i hG (zrunV (ci := 6) hC hG (Nat.le_of_ble_eq_true rfl) (Nat.le_of_ble_eq_true rfl) (zobj hG rfl (Nat.le_of_ble_eq_true rfl) (Nat.le_of_ble_eq_true rfl)) (mX6_thrown l P G42 hV) kVX0_107 rfl rfl rfl ⟨(Nat.le_of_ble_eq_true rfl), (Nat.le_of_ble_eq_true rfl)⟩ ⟨hB.1, hB.2⟩ rfl ⟨zcs_0, (Nat.le_of_ble_eq_true rfl)⟩ hL.1.1 dL_law_1748) ?_
                                                rintro x203 _ _ _ hx203 ⟨rfl, hV⟩ hG
                                                refine z_iload hC (hL.at 1 rfl) dL_law_1751 ?_
                                                refine z_icmp_eq (tgt := 1758) hC hx203 hx200 hV dL_law_1753 (by decide) ?_ ?_
                                                · intro hV
                                                  refine z_iload hC (hL.at 1 rfl) dL_law_1758 ?_
                                                  obtain ⟨J1775, eJ1775, hV⟩ := zjn_abs hV
                                                  have hJ1775 : ∀ {H : Heap} {locs : List Loc}, zS P s G42 H locs → J1775 () → ∀ (ls : Array Slot), zL ls 7 [(0, .ref b), (1, .ref (zA P 0 0 0)), (2, .ref (zA P 5 0 0)), (3, .ref (zA P 6 1 0)), (4, .int (zI a23_4))] → W p l e ({ frames := 8192, cells := mc, slots := ms, locals := 104096 } : Room) s m args below meth c H locs (kc + 1) (ks + 6) Z (F0 m 1775 ls []) := by
                                                    intro H locs hG hV ls hL
                                                    rw [eJ1775] at hV
                                                    refine z_goto (tgt := 2081) hC dL_law_1775 (by decide) ?_
                                                    exact hJ2081 G42 (kc + 1) (ks + 6) hB hV _ _ _ hG hL
                                                  refine z_if_ne (tgt := 1775) hC hx200 hV dL_law_1760 (by decide) ?_ ?_
                                                  · intro hV
                                                    exact hJ1775 hG hV _ (hL.sub [2, 3, 4, 5, 6] rfl)
                                                  · intro hV
                                                    refine z_aload_n hC zvr_a rfl (hL.at 5 rfl) dL_law_1763 ?_
                                                    refine z_iconst hC dL_law_1764 ?_
                                                    refine z_outL hC hG hV dL_law_1765 ?_
                                                    intro x204 hx204 hV
                                                    refine z_iload hC (hL.at 0 rfl) dL_law_1766 ?_
                                                    refine z_i2l hC hx202 dL_law_1768 ?_
                                                    refine z_lcmp hC hx204 hx202 dL_law_1769 ?_
                                                    refine z_if_eq (tgt := 1775) hC (zcmp_in _ _) hV dL_law_1770 (by decide) ?_ ?_
                                                    · intro hV
                                                      exact hJ1775 hG hV _ (hL.sub [2, 3, 4, 5, 6] rfl)
                                                    · intro hV
                                                      refine z_iconst hC dL_law_1773 ?_
                                                      exact hV.elim
                                                · intro hV
                                                  refine z_iconst hC dL_law_1756 ?_
                                                  exact hV.elim
                                              ·
                                                refine z_case (x := bAnd x1 31) (v := 22) hV (fun hc22 hV => ?_) (fun hd22 hV => ?_)
                                                · refine z_tsw (tgt := 1778) hC (inR_toInt _) dL_law_40 (by rw [hc22]; decide) (fun i hi => by simp only [List.size_toArray, List.length_cons, List.length_nil]; omega) ?_
                                                  refine z_aload_n hC zvr_a rfl (hL.at 1 rfl) dL_law_1778 ?_
                                                  refine z_aload_n hC zvr_a rfl (hL.at 0 rfl) dL_law_1779 ?_
                                                  refine z_iload hC (hL.at 4 rfl) dL_law_1780 ?_
                                                  refine z_iconst hC dL_law_1782 ?_
                                                  refine z_iadd hC dL_law_1783 ?_
                                                  refine z_sld hC hG hX (inR_w _) hV dL_law_1784 ?_
                                                  intro x205 hx205 hV
                                                  refine z_aload_n hC zvr_a rfl (hL.at 3 rfl) dL_law_1785 ?_
                                                  obtain ⟨hB, hV⟩ := hV
                                                  refine z_call_i hG (z_runSW hC hG (mX0_taken l P K23 x205 hx205 hst hV) kWX0_179 rfl rfl rfl ⟨(Nat.le_of_ble_eq_true rfl), (Nat.le_of_ble_eq_true rfl)⟩ ⟨hB.1, hB.2⟩ rfl ⟨zcs_0, (Nat.le_of_ble_eq_true rfl)⟩ hL.1.1 dL_law_1786) ?_
                                                  rintro x206 G43 _ _ hx206 hV hG
                                                  refine z_istore (lv' := [(5, .int (zI x206)), (0, .ref b), (1, .ref (zA P 0 0 0)), (2, .ref (zA P 5 0 0)), (3, .ref (zA P 6 1 0)), (4, .int (zI a23_4))]) hC hL (by decide) rfl dL_law_1789 (fun ls hL => ?_)
                                                  refine z_aload_n hC zvr_a rfl (hL.at 3 rfl) dL_law_1791 ?_
                                                  refine z_aload_n hC zvr_a rfl (hL.at 1 rfl) dL_law_1792 ?_
                                                  refine z_iload hC (hL.at 5 rfl) dL_law_1793 ?_
                                                  refine z_iconst hC dL_law_1795 ?_
                                                  refine z_iadd hC dL_law_1796 ?_
                                                  refine z_sld hC hG hX (inR_w _) hV dL_law_1797 ?_
                                                  intro x207 hx207 hV
                                                  refine z_call_i hG (zrunV (ci := 6) hC hG (Nat.le_of_ble_eq_true rfl) (Nat.le_of_ble_eq_true rfl) (zobj hG rfl (Nat.le_of_ble_eq_true rfl) (Nat.le_of_ble_eq_true rfl)) (mX6_taken l P G43 x207 hx207 hV) kVX0_181 rfl rfl rfl ⟨(Nat.le_of_ble_eq_true rfl), (Nat.le_of_ble_eq_true rfl)⟩ ⟨hB.1, hB.2⟩ rfl ⟨zcs_0, (Nat.le_of_ble_eq_true rfl)⟩ hL.1.1 dL_law_1798) ?_
                                                  rintro x208 G44 _ _ hx208 hV hG
                                                  refine z_istore (lv' := [(6, .int (zI x208)), (5, .int (zI x206)), (0, .ref b), (1, .ref (zA P 0 0 0)), (2, .ref (zA P 5 0 0)), (3, .ref (zA P 6 1 0)), (4, .int (zI a23_4))]) hC hL (by decide) rfl dL_law_1801 (fun ls hL => ?_)
                                                  refine z_aload_n hC zvr_a rfl (hL.at 4 rfl) dL_law_1803 ?_
                                                  refine z_call_i hG (zrunV (ci := 6) hC hG (Nat.le_of_ble_eq_true rfl) (Nat.le_of_ble_eq_true rfl) (zobj hG rfl (Nat.le_of_ble_eq_true rfl) (Nat.le_of_ble_eq_true rfl)) (mX6_thrown l P G44 hV) kVX0_107 rfl rfl rfl ⟨(Nat.le_of_ble_eq_true rfl), (Nat.le_of_ble_eq_true rfl)⟩ ⟨hB.1, hB.2⟩ rfl ⟨zcs_0, (Nat.le_of_ble_eq_true rfl)⟩ hL.1.1 dL_law_1804) ?_
                                                  rintro x209 _ _ _ hx209 ⟨rfl, hV⟩ hG
                                                  refine z_iload hC (hL.at 1 rfl) dL_law_1807 ?_
                                                  refine z_icmp_eq (tgt := 1814) hC hx209 hx206 hV dL_law_1809 (by decide) ?_ ?_
                                                  · intro hV
                                                    refine z_iload hC (hL.at 1 rfl) dL_law_1814 ?_
                                                    obtain ⟨J1831, eJ1831, hV⟩ := zjn_abs hV
                                                    have hJ1831 : ∀ {H : Heap} {locs : List Loc}, zS P s G44 H locs → J1831 () → ∀ (ls : Array Slot), zL ls 7 [(0, .ref b), (1, .ref (zA P 0 0 0)), (2, .ref (zA P 5 0 0)), (3, .ref (zA P 6 1 0)), (4, .int (zI a23_4))] → W p l e ({ frames := 8192, cells := mc, slots := ms, locals := 104096 } : Room) s m args below meth c H locs (kc + 1) (ks + 6) Z (F0 m 1831 ls []) := by
                                                      intro H locs hG hV ls hL
                                                      rw [eJ1831] at hV
                                                      refine z_goto (tgt := 2081) hC dL_law_1831 (by decide) ?_
                                                      exact hJ2081 G44 (kc + 1) (ks + 6) hB hV _ _ _ hG hL
                                                    refine z_if_ne (tgt := 1831) hC hx206 hV dL_law_1816 (by decide) ?_ ?_
                                                    · intro hV
                                                      exact hJ1831 hG hV _ (hL.sub [2, 3, 4, 5, 6] rfl)
                                                    · intro hV
                                                      refine z_aload_n hC zvr_a rfl (hL.at 5 rfl) dL_law_1819 ?_
                                                      refine z_iconst hC dL_law_1820 ?_
                                                      refine z_outL hC hG hV dL_law_1821 ?_
                                                      intro x210 hx210 hV
                                                      refine z_iload hC (hL.at 0 rfl) dL_law_1822 ?_
                                                      refine z_i2l hC hx208 dL_law_1824 ?_
                                                      refine z_lcmp hC hx210 hx208 dL_law_1825 ?_
                                                      refine z_if_eq (tgt := 1831) hC (zcmp_in _ _) hV dL_law_1826 (by decide) ?_ ?_
                                                      · intro hV
                                                        exact hJ1831 hG hV _ (hL.sub [2, 3, 4, 5, 6] rfl)
                                                      · intro hV
                                                        refine z_iconst hC dL_law_1829 ?_
                                                        exact hV.elim
                                                  · intro hV
                                                    refine z_iconst hC dL_law_1812 ?_
                                                    exact hV.elim
                                                ·
                                                  refine z_case (x := bAnd x1 31) (v := 23) hV (fun hc23 hV => ?_) (fun hd23 hV => ?_)
                                                  · refine z_tsw (tgt := 1834) hC (inR_toInt _) dL_law_40 (by rw [hc23]; decide) (fun i hi => by simp only [List.size_toArray, List.length_cons, List.length_nil]; omega) ?_
                                                    refine z_aload_n hC zvr_a rfl (hL.at 1 rfl) dL_law_1834 ?_
                                                    refine z_aload_n hC zvr_a rfl (hL.at 0 rfl) dL_law_1835 ?_
                                                    refine z_iload hC (hL.at 4 rfl) dL_law_1836 ?_
                                                    refine z_iconst hC dL_law_1838 ?_
                                                    refine z_iadd hC dL_law_1839 ?_
                                                    refine z_sld hC hG hX (inR_w _) hV dL_law_1840 ?_
                                                    intro x211 hx211 hV
                                                    refine z_aload_n hC zvr_a rfl (hL.at 0 rfl) dL_law_1841 ?_
                                                    refine z_iload hC (hL.at 4 rfl) dL_law_1842 ?_
                                                    refine z_iconst hC dL_law_1844 ?_
                                                    refine z_iadd hC dL_law_1845 ?_
                                                    refine z_sld hC hG hX (inR_w _) hV dL_law_1846 ?_
                                                    intro x212 hx212 hV
                                                    obtain ⟨J1855, eJ1855, hV⟩ := zjn_abs hV
                                                    have hJ1855 : ∀ {H : Heap} {locs : List Loc}, zS P s K23 H locs → ∀ (z1855_2 : Int), (z1855_2 = 0 ∨ z1855_2 = 1) → J1855 z1855_2 → ∀ (ls : Array Slot), zL ls 7 [(0, .ref b), (1, .ref (zA P 0 0 0)), (2, .ref (zA P 5 0 0)), (3, .ref (zA P 6 1 0)), (4, .int (zI a23_4))] → W p l e ({ frames := 8192, cells := mc, slots := ms, locals := 104096 } : Room) s m args below meth c H locs kc ks Z (F0 m 1855 ls [.int (zI z1855_2), .int (zI x211), .ref (zA P 0 0 0)]) := by
                                                      intro H locs hG z1855_2 hz1855_2 hV ls hL
                                                      rw [eJ1855] at hV
                                                      refine z_aload_n hC zvr_a rfl (hL.at 3 rfl) dL_law_1855 ?_
                                                      obtain ⟨hB, hV⟩ := hV
                                                      refine z_call_i hG (z_runSW hC hG (mX0_size l P K23 x211 hx211 z1855_2 hz1855_2 hst hV) kWX0_182 rfl rfl rfl ⟨(Nat.le_of_ble_eq_true rfl), (Nat.le_of_ble_eq_true rfl)⟩ ⟨hB.1, hB.2⟩ rfl ⟨zcs_0, (Nat.le_of_ble_eq_true rfl)⟩ hL.1.1 dL_law_1856) ?_
                                                      rintro x213 G45 _ _ hx213 hV hG
                                                      refine z_istore (lv' := [(5, .int (zI x213)), (0, .ref b), (1, .ref (zA P 0 0 0)), (2, .ref (zA P 5 0 0)), (3, .ref (zA P 6 1 0)), (4, .int (zI a23_4))]) hC hL (by decide) rfl dL_law_1859 (fun ls hL => ?_)
                                                      refine z_aload_n hC zvr_a rfl (hL.at 3 rfl) dL_law_1861 ?_
                                                      refine z_aload_n hC zvr_a rfl (hL.at 1 rfl) dL_law_1862 ?_
                                                      refine z_iload hC (hL.at 5 rfl) dL_law_1863 ?_
                                                      refine z_iconst hC dL_law_1865 ?_
                                                      refine z_iadd hC dL_law_1866 ?_
                                                      refine z_sld hC hG hX (inR_w _) hV dL_law_1867 ?_
                                                      intro x214 hx214 hV
                                                      refine z_aload_n hC zvr_a rfl (hL.at 1 rfl) dL_law_1868 ?_
                                                      refine z_iload hC (hL.at 5 rfl) dL_law_1869 ?_
                                                      refine z_iconst hC dL_law_1871 ?_
                                                      refine z_iadd hC dL_law_1872 ?_
                                                      refine z_sld hC hG hX (inR_w _) hV dL_law_1873 ?_
                                                      intro x215 hx215 hV
                                                      obtain ⟨J1882, eJ1882, hV⟩ := zjn_abs hV
                                                      have hJ1882 : ∀ {H : Heap} {locs : List Loc}, zS P s G45 H locs → ∀ (z1882_2 : Int), (z1882_2 = 0 ∨ z1882_2 = 1) → J1882 z1882_2 → ∀ (ls : Array Slot), zL ls 7 [(0, .ref b), (1, .ref (zA P 0 0 0)), (2, .ref (zA P 5 0 0)), (3, .ref (zA P 6 1 0)), (4, .int (zI a23_4)), (5, .int (zI x213))] → W p l e ({ frames := 8192, cells := mc, slots := ms, locals := 104096 } : Room) s m args below meth c H locs (kc + 2) (ks + 12) Z (F0 m 1882 ls [.int (zI z1882_2), .int (zI x214), .ref (zA P 5 0 0)]) := by
                                                        intro H locs hG z1882_2 hz1882_2 hV ls hL
                                                        rw [eJ1882] at hV
                                                        refine z_call_i hG (zrunV (ci := 6) hC hG (Nat.le_of_ble_eq_true rfl) (Nat.le_of_ble_eq_true rfl) (zobj hG rfl (Nat.le_of_ble_eq_true rfl) (Nat.le_of_ble_eq_true rfl)) (mX6_size l P G45 x214 hx214 z1882_2 hz1882_2 hV) kVX0_185 rfl rfl rfl ⟨(Nat.le_of_ble_eq_true rfl), (Nat.le_of_ble_eq_true rfl)⟩ ⟨hB.1, hB.2⟩ rfl ⟨zcs_0, (Nat.le_of_ble_eq_true rfl)⟩ hL.1.1 dL_law_1882) ?_
                                                        rintro x216 G46 _ _ hx216 hV hG
                                                        refine z_istore (lv' := [(6, .int (zI x216)), (0, .ref b), (1, .ref (zA P 0 0 0)), (2, .ref (zA P 5 0 0)), (3, .ref (zA P 6 1 0)), (4, .int (zI a23_4)), (5, .int (zI x213))]) hC hL (by decide) rfl dL_law_1885 (fun ls hL => ?_)
                                                        refine z_aload_n hC zvr_a rfl (hL.at 3 rfl) dL_law_1887 ?_
                                                        refine z_call_i hG (zrunV (ci := 6) hC hG (Nat.le_of_ble_eq_true rfl) (Nat.le_of_ble_eq_true rfl) (zobj hG rfl (Nat.le_of_ble_eq_true rfl) (Nat.le_of_ble_eq_true rfl)) (mX6_thrown l P G46 hV) kVX0_107 rfl rfl rfl ⟨(Nat.le_of_ble_eq_true rfl), (Nat.le_of_ble_eq_true rfl)⟩ ⟨hB.1, hB.2⟩ rfl ⟨zcs_0, (Nat.le_of_ble_eq_true rfl)⟩ hL.1.1 dL_law_1888) ?_
                                                        rintro x217 _ _ _ hx217 ⟨rfl, hV⟩ hG
                                                        refine z_iload hC (hL.at 6 rfl) dL_law_1891 ?_
                                                        refine z_icmp_eq (tgt := 1898) hC hx217 hx213 hV dL_law_1893 (by decide) ?_ ?_
                                                        · intro hV
                                                          refine z_iload hC (hL.at 6 rfl) dL_law_1898 ?_
                                                          obtain ⟨J1915, eJ1915, hV⟩ := zjn_abs hV
                                                          have hJ1915 : ∀ {H : Heap} {locs : List Loc}, zS P s G46 H locs → J1915 () → ∀ (ls : Array Slot), zL ls 7 [(0, .ref b), (1, .ref (zA P 0 0 0)), (2, .ref (zA P 5 0 0)), (3, .ref (zA P 6 1 0)), (4, .int (zI a23_4))] → W p l e ({ frames := 8192, cells := mc, slots := ms, locals := 104096 } : Room) s m args below meth c H locs (kc + 2) (ks + 12) Z (F0 m 1915 ls []) := by
                                                            intro H locs hG hV ls hL
                                                            rw [eJ1915] at hV
                                                            refine z_goto (tgt := 2081) hC dL_law_1915 (by decide) ?_
                                                            exact hJ2081 G46 (kc + 2) (ks + 12) hB hV _ _ _ hG hL
                                                          refine z_if_ne (tgt := 1915) hC hx213 hV dL_law_1900 (by decide) ?_ ?_
                                                          · intro hV
                                                            exact hJ1915 hG hV _ (hL.sub [1, 2, 3, 4, 5] rfl)
                                                          · intro hV
                                                            refine z_aload_n hC zvr_a rfl (hL.at 4 rfl) dL_law_1903 ?_
                                                            refine z_iconst hC dL_law_1904 ?_
                                                            refine z_outL hC hG hV dL_law_1905 ?_
                                                            intro x218 hx218 hV
                                                            refine z_iload hC (hL.at 0 rfl) dL_law_1906 ?_
                                                            refine z_i2l hC hx216 dL_law_1908 ?_
                                                            refine z_lcmp hC hx218 hx216 dL_law_1909 ?_
                                                            refine z_if_eq (tgt := 1915) hC (zcmp_in _ _) hV dL_law_1910 (by decide) ?_ ?_
                                                            · intro hV
                                                              exact hJ1915 hG hV _ (hL.sub [1, 2, 3, 4, 5] rfl)
                                                            · intro hV
                                                              refine z_iconst hC dL_law_1913 ?_
                                                              exact hV.elim
                                                        · intro hV
                                                          refine z_iconst hC dL_law_1896 ?_
                                                          exact hV.elim
                                                      refine z_if_eq (tgt := 1881) hC hx215 hV dL_law_1874 (by decide) ?_ ?_
                                                      · intro hV
                                                        refine z_iconst hC dL_law_1881 ?_
                                                        exact hJ1882 hG 0 (Or.inl rfl) hV _ (hL.sub [1, 2, 3, 4, 5, 0] rfl)
                                                      · intro hV
                                                        refine z_iconst hC dL_law_1877 ?_
                                                        refine z_goto (tgt := 1882) hC dL_law_1878 (by decide) ?_
                                                        exact hJ1882 hG 1 (Or.inr rfl) hV _ (hL.sub [1, 2, 3, 4, 5, 0] rfl)
                                                    refine z_if_eq (tgt := 1854) hC hx212 hV dL_law_1847 (by decide) ?_ ?_
                                                    · intro hV
                                                      refine z_iconst hC dL_law_1854 ?_
                                                      exact hJ1855 hG 0 (Or.inl rfl) hV _ hL
                                                    · intro hV
                                                      refine z_iconst hC dL_law_1850 ?_
                                                      refine z_goto (tgt := 1855) hC dL_law_1851 (by decide) ?_
                                                      exact hJ1855 hG 1 (Or.inr rfl) hV _ hL
                                                  ·
                                                    refine z_case (x := bAnd x1 31) (v := 24) hV (fun hc24 hV => ?_) (fun hd24 hV => ?_)
                                                    · refine z_tsw (tgt := 1918) hC (inR_toInt _) dL_law_40 (by rw [hc24]; decide) (fun i hi => by simp only [List.size_toArray, List.length_cons, List.length_nil]; omega) ?_
                                                      refine z_aload_n hC zvr_a rfl (hL.at 1 rfl) dL_law_1918 ?_
                                                      refine z_aload_n hC zvr_a rfl (hL.at 3 rfl) dL_law_1919 ?_
                                                      obtain ⟨hB, hV⟩ := hV
                                                      refine z_call_i hG (z_runSW hC hG (mX0_missing l P K23 hst hV) kWX0_186 rfl rfl rfl ⟨(Nat.le_of_ble_eq_true rfl), (Nat.le_of_ble_eq_true rfl)⟩ ⟨hB.1, hB.2⟩ rfl ⟨zcs_0, (Nat.le_of_ble_eq_true rfl)⟩ hL.1.1 dL_law_1920) ?_
                                                      rintro x219 G47 _ _ hx219 hV hG
                                                      refine z_istore (lv' := [(5, .int (zI x219)), (0, .ref b), (1, .ref (zA P 0 0 0)), (2, .ref (zA P 5 0 0)), (3, .ref (zA P 6 1 0)), (4, .int (zI a23_4))]) hC hL (by decide) rfl dL_law_1923 (fun ls hL => ?_)
                                                      refine z_aload_n hC zvr_a rfl (hL.at 3 rfl) dL_law_1925 ?_
                                                      refine z_call_i hG (zrunV (ci := 6) hC hG (Nat.le_of_ble_eq_true rfl) (Nat.le_of_ble_eq_true rfl) (zobj hG rfl (Nat.le_of_ble_eq_true rfl) (Nat.le_of_ble_eq_true rfl)) (mX6_missing l P G47 hV) kVX0_188 rfl rfl rfl ⟨(Nat.le_of_ble_eq_true rfl), (Nat.le_of_ble_eq_true rfl)⟩ ⟨hB.1, hB.2⟩ rfl ⟨zcs_0, (Nat.le_of_ble_eq_true rfl)⟩ hL.1.1 dL_law_1926) ?_
                                                      rintro x220 G48 _ _ hx220 hV hG
                                                      refine z_istore (lv' := [(6, .int (zI x220)), (5, .int (zI x219)), (0, .ref b), (1, .ref (zA P 0 0 0)), (2, .ref (zA P 5 0 0)), (3, .ref (zA P 6 1 0)), (4, .int (zI a23_4))]) hC hL (by decide) rfl dL_law_1929 (fun ls hL => ?_)
                                                      refine z_aload_n hC zvr_a rfl (hL.at 4 rfl) dL_law_1931 ?_
                                                      refine z_call_i hG (zrunV (ci := 6) hC hG (Nat.le_of_ble_eq_true rfl) (Nat.le_of_ble_eq_true rfl) (zobj hG rfl (Nat.le_of_ble_eq_true rfl) (Nat.le_of_ble_eq_true rfl)) (mX6_thrown l P G48 hV) kVX0_107 rfl rfl rfl ⟨(Nat.le_of_ble_eq_true rfl), (Nat.le_of_ble_eq_true rfl)⟩ ⟨hB.1, hB.2⟩ rfl ⟨zcs_0, (Nat.le_of_ble_eq_true rfl)⟩ hL.1.1 dL_law_1932) ?_
                                                      rintro x221 _ _ _ hx221 ⟨rfl, hV⟩ hG
                                                      refine z_iload hC (hL.at 1 rfl) dL_law_1935 ?_
                                                      refine z_icmp_eq (tgt := 1942) hC hx221 hx219 hV dL_law_1937 (by decide) ?_ ?_
                                                      · intro hV
                                                        refine z_iload hC (hL.at 1 rfl) dL_law_1942 ?_
                                                        obtain ⟨J1959, eJ1959, hV⟩ := zjn_abs hV
                                                        have hJ1959 : ∀ {H : Heap} {locs : List Loc}, zS P s G48 H locs → J1959 () → ∀ (ls : Array Slot), zL ls 7 [(0, .ref b), (1, .ref (zA P 0 0 0)), (2, .ref (zA P 5 0 0)), (3, .ref (zA P 6 1 0)), (4, .int (zI a23_4))] → W p l e ({ frames := 8192, cells := mc, slots := ms, locals := 104096 } : Room) s m args below meth c H locs (kc + 1) (ks + 6) Z (F0 m 1959 ls []) := by
                                                          intro H locs hG hV ls hL
                                                          rw [eJ1959] at hV
                                                          refine z_goto (tgt := 2081) hC dL_law_1959 (by decide) ?_
                                                          exact hJ2081 G48 (kc + 1) (ks + 6) hB hV _ _ _ hG hL
                                                        refine z_if_ne (tgt := 1959) hC hx219 hV dL_law_1944 (by decide) ?_ ?_
                                                        · intro hV
                                                          exact hJ1959 hG hV _ (hL.sub [2, 3, 4, 5, 6] rfl)
                                                        · intro hV
                                                          refine z_aload_n hC zvr_a rfl (hL.at 5 rfl) dL_law_1947 ?_
                                                          refine z_iconst hC dL_law_1948 ?_
                                                          refine z_outL hC hG hV dL_law_1949 ?_
                                                          intro x222 hx222 hV
                                                          refine z_iload hC (hL.at 0 rfl) dL_law_1950 ?_
                                                          refine z_i2l hC hx220 dL_law_1952 ?_
                                                          refine z_lcmp hC hx222 hx220 dL_law_1953 ?_
                                                          refine z_if_eq (tgt := 1959) hC (zcmp_in _ _) hV dL_law_1954 (by decide) ?_ ?_
                                                          · intro hV
                                                            exact hJ1959 hG hV _ (hL.sub [2, 3, 4, 5, 6] rfl)
                                                          · intro hV
                                                            refine z_iconst hC dL_law_1957 ?_
                                                            exact hV.elim
                                                      · intro hV
                                                        refine z_iconst hC dL_law_1940 ?_
                                                        exact hV.elim
                                                    ·
                                                      refine z_case (x := bAnd x1 31) (v := 25) hV (fun hc25 hV => ?_) (fun hd25 hV => ?_)
                                                      · refine z_tsw (tgt := 1962) hC (inR_toInt _) dL_law_40 (by rw [hc25]; decide) (fun i hi => by simp only [List.size_toArray, List.length_cons, List.length_nil]; omega) ?_
                                                        refine z_aload_n hC zvr_a rfl (hL.at 1 rfl) dL_law_1962 ?_
                                                        refine z_aload_n hC zvr_a rfl (hL.at 0 rfl) dL_law_1963 ?_
                                                        refine z_iload hC (hL.at 4 rfl) dL_law_1964 ?_
                                                        refine z_iconst hC dL_law_1966 ?_
                                                        refine z_iadd hC dL_law_1967 ?_
                                                        refine z_sld hC hG hX (inR_w _) hV dL_law_1968 ?_
                                                        intro x223 hx223 hV
                                                        refine z_aload_n hC zvr_a rfl (hL.at 3 rfl) dL_law_1969 ?_
                                                        obtain ⟨hB, hV⟩ := hV
                                                        refine z_call_i hG (z_runSW hC hG (mX0_example l P K23 x223 hx223 hst hV) kWX0_189 rfl rfl rfl ⟨(Nat.le_of_ble_eq_true rfl), (Nat.le_of_ble_eq_true rfl)⟩ ⟨hB.1, hB.2⟩ rfl ⟨zcs_0, (Nat.le_of_ble_eq_true rfl)⟩ hL.1.1 dL_law_1970) ?_
                                                        rintro x224 G49 _ _ hx224 hV hG
                                                        refine z_istore (lv' := [(5, .int (zI x224)), (0, .ref b), (1, .ref (zA P 0 0 0)), (2, .ref (zA P 5 0 0)), (3, .ref (zA P 6 1 0)), (4, .int (zI a23_4))]) hC hL (by decide) rfl dL_law_1973 (fun ls hL => ?_)
                                                        refine z_aload_n hC zvr_a rfl (hL.at 3 rfl) dL_law_1975 ?_
                                                        refine z_aload_n hC zvr_a rfl (hL.at 1 rfl) dL_law_1976 ?_
                                                        refine z_iload hC (hL.at 5 rfl) dL_law_1977 ?_
                                                        refine z_iconst hC dL_law_1979 ?_
                                                        refine z_iadd hC dL_law_1980 ?_
                                                        refine z_sld hC hG hX (inR_w _) hV dL_law_1981 ?_
                                                        intro x225 hx225 hV
                                                        refine z_call_i hG (zrunV (ci := 6) hC hG (Nat.le_of_ble_eq_true rfl) (Nat.le_of_ble_eq_true rfl) (zobj hG rfl (Nat.le_of_ble_eq_true rfl) (Nat.le_of_ble_eq_true rfl)) (mX6_example l P G49 x225 hx225 hV) kVX0_191 rfl rfl rfl ⟨(Nat.le_of_ble_eq_true rfl), (Nat.le_of_ble_eq_true rfl)⟩ ⟨hB.1, hB.2⟩ rfl ⟨zcs_0, (Nat.le_of_ble_eq_true rfl)⟩ hL.1.1 dL_law_1982) ?_
                                                        rintro x226 G50 _ _ hx226 hV hG
                                                        refine z_istore (lv' := [(6, .int (zI x226)), (5, .int (zI x224)), (0, .ref b), (1, .ref (zA P 0 0 0)), (2, .ref (zA P 5 0 0)), (3, .ref (zA P 6 1 0)), (4, .int (zI a23_4))]) hC hL (by decide) rfl dL_law_1985 (fun ls hL => ?_)
                                                        refine z_aload_n hC zvr_a rfl (hL.at 4 rfl) dL_law_1987 ?_
                                                        refine z_call_i hG (zrunV (ci := 6) hC hG (Nat.le_of_ble_eq_true rfl) (Nat.le_of_ble_eq_true rfl) (zobj hG rfl (Nat.le_of_ble_eq_true rfl) (Nat.le_of_ble_eq_true rfl)) (mX6_thrown l P G50 hV) kVX0_107 rfl rfl rfl ⟨(Nat.le_of_ble_eq_true rfl), (Nat.le_of_ble_eq_true rfl)⟩ ⟨hB.1, hB.2⟩ rfl ⟨zcs_0, (Nat.le_of_ble_eq_true rfl)⟩ hL.1.1 dL_law_1988) ?_
                                                        rintro x227 _ _ _ hx227 ⟨rfl, hV⟩ hG
                                                        refine z_iload hC (hL.at 1 rfl) dL_law_1991 ?_
                                                        refine z_icmp_eq (tgt := 1998) hC hx227 hx224 hV dL_law_1993 (by decide) ?_ ?_
                                                        · intro hV
                                                          refine z_iload hC (hL.at 1 rfl) dL_law_1998 ?_
                                                          obtain ⟨J2015, eJ2015, hV⟩ := zjn_abs hV
                                                          have hJ2015 : ∀ {H : Heap} {locs : List Loc}, zS P s G50 H locs → J2015 () → ∀ (ls : Array Slot), zL ls 7 [(0, .ref b), (1, .ref (zA P 0 0 0)), (2, .ref (zA P 5 0 0)), (3, .ref (zA P 6 1 0)), (4, .int (zI a23_4))] → W p l e ({ frames := 8192, cells := mc, slots := ms, locals := 104096 } : Room) s m args below meth c H locs (kc + 1) (ks + 6) Z (F0 m 2015 ls []) := by
                                                            intro H locs hG hV ls hL
                                                            rw [eJ2015] at hV
                                                            refine z_goto (tgt := 2081) hC dL_law_2015 (by decide) ?_
                                                            exact hJ2081 G50 (kc + 1) (ks + 6) hB hV _ _ _ hG hL
                                                          refine z_if_ne (tgt := 2015) hC hx224 hV dL_law_2000 (by decide) ?_ ?_
                                                          · intro hV
                                                            exact hJ2015 hG hV _ (hL.sub [2, 3, 4, 5, 6] rfl)
                                                          · intro hV
                                                            refine z_aload_n hC zvr_a rfl (hL.at 5 rfl) dL_law_2003 ?_
                                                            refine z_iconst hC dL_law_2004 ?_
                                                            refine z_outL hC hG hV dL_law_2005 ?_
                                                            intro x228 hx228 hV
                                                            refine z_iload hC (hL.at 0 rfl) dL_law_2006 ?_
                                                            refine z_i2l hC hx226 dL_law_2008 ?_
                                                            refine z_lcmp hC hx228 hx226 dL_law_2009 ?_
                                                            refine z_if_eq (tgt := 2015) hC (zcmp_in _ _) hV dL_law_2010 (by decide) ?_ ?_
                                                            · intro hV
                                                              exact hJ2015 hG hV _ (hL.sub [2, 3, 4, 5, 6] rfl)
                                                            · intro hV
                                                              refine z_iconst hC dL_law_2013 ?_
                                                              exact hV.elim
                                                        · intro hV
                                                          refine z_iconst hC dL_law_1996 ?_
                                                          exact hV.elim
                                                      ·
                                                        refine z_case (x := bAnd x1 31) (v := 26) hV (fun hc26 hV => ?_) (fun hd26 hV => ?_)
                                                        · refine z_tsw (tgt := 2018) hC (inR_toInt _) dL_law_40 (by rw [hc26]; decide) (fun i hi => by simp only [List.size_toArray, List.length_cons, List.length_nil]; omega) ?_
                                                          refine z_aload_n hC zvr_a rfl (hL.at 1 rfl) dL_law_2018 ?_
                                                          refine z_aload_n hC zvr_a rfl (hL.at 0 rfl) dL_law_2019 ?_
                                                          refine z_iload hC (hL.at 4 rfl) dL_law_2020 ?_
                                                          refine z_iconst hC dL_law_2022 ?_
                                                          refine z_iadd hC dL_law_2023 ?_
                                                          refine z_sld hC hG hX (inR_w _) hV dL_law_2024 ?_
                                                          intro x229 hx229 hV
                                                          refine z_aload_n hC zvr_a rfl (hL.at 3 rfl) dL_law_2025 ?_
                                                          obtain ⟨hB, hV⟩ := hV
                                                          refine z_call_i hG (z_runSW hC hG (mX0_isUsed l P K23 x229 hx229 hst hV) kWX0_192 rfl rfl rfl ⟨(Nat.le_of_ble_eq_true rfl), (Nat.le_of_ble_eq_true rfl)⟩ ⟨hB.1, hB.2⟩ rfl ⟨zcs_0, (Nat.le_of_ble_eq_true rfl)⟩ hL.1.1 dL_law_2026) ?_
                                                          rintro x230 G51 _ _ hx230 hV hG
                                                          refine z_istore (lv' := [(5, .int (zI x230)), (0, .ref b), (1, .ref (zA P 0 0 0)), (2, .ref (zA P 5 0 0)), (3, .ref (zA P 6 1 0)), (4, .int (zI a23_4))]) hC hL (by decide) rfl dL_law_2029 (fun ls hL => ?_)
                                                          refine z_aload_n hC zvr_a rfl (hL.at 3 rfl) dL_law_2031 ?_
                                                          refine z_aload_n hC zvr_a rfl (hL.at 1 rfl) dL_law_2032 ?_
                                                          refine z_iload hC (hL.at 5 rfl) dL_law_2033 ?_
                                                          refine z_iconst hC dL_law_2035 ?_
                                                          refine z_iadd hC dL_law_2036 ?_
                                                          refine z_sld hC hG hX (inR_w _) hV dL_law_2037 ?_
                                                          intro x231 hx231 hV
                                                          refine z_call_z hG (zrunV (ci := 6) hC hG (Nat.le_of_ble_eq_true rfl) (Nat.le_of_ble_eq_true rfl) (zobj hG rfl (Nat.le_of_ble_eq_true rfl) (Nat.le_of_ble_eq_true rfl)) (mX6_isUsed l P G51 x231 hx231 hV) kVX0_194 rfl rfl rfl ⟨(Nat.le_of_ble_eq_true rfl), (Nat.le_of_ble_eq_true rfl)⟩ ⟨hB.1, hB.2⟩ rfl ⟨zcs_0, (Nat.le_of_ble_eq_true rfl)⟩ hL.1.1 dL_law_2038) ?_
                                                          rintro x232 G52 _ _ hx232 hV hG
                                                          refine z_istore (lv' := [(6, .int (zI x232)), (5, .int (zI x230)), (0, .ref b), (1, .ref (zA P 0 0 0)), (2, .ref (zA P 5 0 0)), (3, .ref (zA P 6 1 0)), (4, .int (zI a23_4))]) hC hL (by decide) rfl dL_law_2041 (fun ls hL => ?_)
                                                          refine z_aload_n hC zvr_a rfl (hL.at 4 rfl) dL_law_2043 ?_
                                                          refine z_call_i hG (zrunV (ci := 6) hC hG (Nat.le_of_ble_eq_true rfl) (Nat.le_of_ble_eq_true rfl) (zobj hG rfl (Nat.le_of_ble_eq_true rfl) (Nat.le_of_ble_eq_true rfl)) (mX6_thrown l P G52 hV) kVX0_107 rfl rfl rfl ⟨(Nat.le_of_ble_eq_true rfl), (Nat.le_of_ble_eq_true rfl)⟩ ⟨hB.1, hB.2⟩ rfl ⟨zcs_0, (Nat.le_of_ble_eq_true rfl)⟩ hL.1.1 dL_law_2044) ?_
                                                          rintro x233 _ _ _ hx233 ⟨rfl, hV⟩ hG
                                                          refine z_iload hC (hL.at 1 rfl) dL_law_2047 ?_
                                                          refine z_icmp_eq (tgt := 2054) hC hx233 hx230 hV dL_law_2049 (by decide) ?_ ?_
                                                          · intro hV
                                                            refine z_iload hC (hL.at 1 rfl) dL_law_2054 ?_
                                                            obtain ⟨J2078, eJ2078, hV⟩ := zjn_abs hV
                                                            have hJ2078 : ∀ {H : Heap} {locs : List Loc}, zS P s G52 H locs → J2078 () → ∀ (ls : Array Slot), zL ls 7 [(0, .ref b), (1, .ref (zA P 0 0 0)), (2, .ref (zA P 5 0 0)), (3, .ref (zA P 6 1 0)), (4, .int (zI a23_4))] → W p l e ({ frames := 8192, cells := mc, slots := ms, locals := 104096 } : Room) s m args below meth c H locs (kc + 2) (ks + 12) Z (F0 m 2078 ls []) := by
                                                              intro H locs hG hV ls hL
                                                              rw [eJ2078] at hV
                                                              refine z_goto (tgt := 2081) hC dL_law_2078 (by decide) ?_
                                                              exact hJ2081 G52 (kc + 2) (ks + 12) hB hV _ _ _ hG hL
                                                            refine z_if_ne (tgt := 2078) hC hx230 hV dL_law_2056 (by decide) ?_ ?_
                                                            · intro hV
                                                              exact hJ2078 hG hV _ (hL.sub [2, 3, 4, 5, 6] rfl)
                                                            · intro hV
                                                              refine z_aload_n hC zvr_a rfl (hL.at 5 rfl) dL_law_2059 ?_
                                                              refine z_iconst hC dL_law_2060 ?_
                                                              refine z_outL hC hG hV dL_law_2061 ?_
                                                              intro x234 hx234 hV
                                                              refine z_iload hC (hL.at 0 rfl) dL_law_2062 ?_
                                                              obtain ⟨J2072, eJ2072, hV⟩ := zjn_abs hV
                                                              have hJ2072 : ∀ {H : Heap} {locs : List Loc}, zS P s G52 H locs → ∀ (z2072_1 : Int), inR z2072_1 → J2072 z2072_1 → ∀ (ls : Array Slot), zL ls 7 [(0, .ref b), (1, .ref (zA P 0 0 0)), (2, .ref (zA P 5 0 0)), (3, .ref (zA P 6 1 0)), (4, .int (zI a23_4))] → W p l e ({ frames := 8192, cells := mc, slots := ms, locals := 104096 } : Room) s m args below meth c H locs (kc + 2) (ks + 12) Z (F0 m 2072 ls [.long (Int64.ofInt z2072_1), .long (Int64.ofInt x234)]) := by
                                                                intro H locs hG z2072_1 hz2072_1 hV ls hL
                                                                rw [eJ2072] at hV
                                                                refine z_lcmp hC hx234 hz2072_1 dL_law_2072 ?_
                                                                refine z_if_eq (tgt := 2078) hC (zcmp_in _ _) hV dL_law_2073 (by decide) ?_ ?_
                                                                · intro hV
                                                                  exact hJ2078 hG hV _ hL
                                                                · intro hV
                                                                  refine z_iconst hC dL_law_2076 ?_
                                                                  exact hV.elim
                                                              refine z_if_eq (tgt := 2071) hC (inR_b hx232) hV dL_law_2064 (by decide) ?_ ?_
                                                              · intro hV
                                                                refine z_lconst (x := 0) hC (by decide) dL_law_2071 ?_
                                                                exact hJ2072 hG 0 (inR_lit rfl) hV _ (hL.sub [2, 3, 4, 5, 6] rfl)
                                                              · intro hV
                                                                refine z_lconst (x := 1) hC (by decide) dL_law_2067 ?_
                                                                refine z_goto (tgt := 2072) hC dL_law_2068 (by decide) ?_
                                                                exact hJ2072 hG 1 (inR_lit rfl) hV _ (hL.sub [2, 3, 4, 5, 6] rfl)
                                                          · intro hV
                                                            refine z_iconst hC dL_law_2052 ?_
                                                            exact hV.elim
                                                        ·
                                                          refine z_tsw (tgt := 2081) hC (inR_toInt _) dL_law_40 ?_ (fun i hi => by simp only [List.size_toArray, List.length_cons, List.length_nil]; omega) ?_
                                                          · rw [if_pos (by omega)]; decide
                                                          exact hJ2081 K23 kc ks hB hV _ _ _ hG hL
